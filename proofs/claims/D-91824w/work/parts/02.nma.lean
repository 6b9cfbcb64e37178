/-! DECODE ROWS BY BYTES: one lemma an opcode; a method's code is cut into short pieces once, and a row reads its own piece alone. -/
set_option maxRecDepth 100000
/-- the code has just these bytes from pc on -/
def DkAt (code : ByteArray) (pc : Nat) (bs : List UInt8) : Prop := ∀ (j : Nat) (b : UInt8), bs[j]? = some b → code.data.toList[pc + j]? = some b
/-- the piece W has the bytes bs from its place j on -/
def dkIn (W : List UInt8) (j : Nat) (bs : List UInt8) : Bool := decide ((W.drop j).take bs.length = bs)
theorem dk_seg {l W T : List UInt8} {o o2 : Nat} (h : l.drop o = W ++ T) (n : Nat) (hn : W.length = n) (ho : o + n = o2) : l.drop o2 = T := by
  subst ho
  rw [← List.drop_drop, h, List.drop_left' hn]
theorem dk_at {code : ByteArray} {W T bs : List UInt8} {o pc : Nat} (h : code.data.toList.drop o = W ++ T) (j : Nat) (hp : o + j = pc) (hw : dkIn W j bs = true) : DkAt code pc bs := by
  subst hp
  intro i b e
  have h1 := of_decide_eq_true hw
  have h2 : i < bs.length := (List.getElem?_eq_some_iff.mp e).1
  have h3 : W[j + i]? = some b := by
    rw [← h1, List.getElem?_take, if_pos h2, List.getElem?_drop] at e
    exact e
  have h4 : j + i < W.length := (List.getElem?_eq_some_iff.mp h3).1
  have h5 : (code.data.toList.drop o)[j + i]? = some b := by
    rw [h, List.getElem?_append_left h4]
    exact h3
  rw [List.getElem?_drop, ← Nat.add_assoc] at h5
  exact h5
theorem dk_u1 {A : ByteArray} {p : Nat} {b : UInt8} (h : A.data.toList[p]? = some b) : (Reader.u1 : Reader DecodeError Nat) A p = .ok (b.toNat, p + 1) := by
  obtain ⟨h1, h2⟩ := List.getElem?_eq_some_iff.mp h
  have h3 : p < A.size := by simpa using h1
  have h4 : A[p]'h3 = b := h2
  have e : (Reader.u1 : Reader DecodeError Nat) A p = (if h : p < A.size then .ok (A[p].toNat, p + 1) else .error (HasTruncated.truncated p)) := by
    show (do if h : p < A.size then do set (p + 1); Pure.pure A[p].toNat else MonadExcept.throw (HasTruncated.truncated p) : Reader DecodeError Nat) A p = _
    by_cases hi : p < A.size
    · rw [dif_pos hi, dif_pos hi]; rfl
    · rw [dif_neg hi, dif_neg hi]; rfl
  rw [e, dif_pos h3, h4]
theorem dk_bind {α β : Type} {r : Reader DecodeError α} {f : α → Reader DecodeError β} {A : ByteArray} {p s : Nat} {a : α} (h : r A p = .ok (a, s)) : (r >>= f) A p = f a A s := by
  show (do let (a, s) ← r A p; f a A s : Except DecodeError (β × Nat)) = _
  rw [h]
  rfl
theorem dk_map {α β : Type} {r : Reader DecodeError α} {g : α → β} {A : ByteArray} {p s : Nat} {a : α} (h : r A p = .ok (a, s)) : (g <$> r) A p = .ok (g a, s) := by
  show (do let (a, s) ← r A p; .ok (g a, s) : Except DecodeError (β × Nat)) = _
  rw [h]
  rfl
theorem dk_u2 {A : ByteArray} {p : Nat} {a b : UInt8} (h : A.data.toList[p]? = some a) (h2 : A.data.toList[p + 1]? = some b) : (Reader.u2 : Reader DecodeError Nat) A p = .ok (a.toNat * 256 + b.toNat, p + 2) := by
  show (Reader.u1 >>= fun hi => Reader.u1 >>= fun lo => Pure.pure (hi * 256 + lo) : Reader DecodeError Nat) A p = _
  rw [dk_bind (dk_u1 h), dk_bind (dk_u1 h2)]
  rfl
theorem dk_of {code : ByteArray} {pc n : Nat} {i : Instr} (h : Decoder.instr pc code pc = .ok (i, pc + n)) : decode code pc = .ok (i, n) := by
  have e : decode code pc = (match Decoder.instr pc code pc with | .error x => .error x | .ok (j, s) => .ok (j, s - pc)) := by
    show (do let (j, s) ← Decoder.instr pc code pc; Pure.pure (j, s - pc) : Except DecodeError (Instr × Nat)) = _
    cases Decoder.instr pc code pc <;> rfl
  rw [e, h]
  show Except.ok (i, pc + n - pc) = _
  rw [Nat.add_sub_cancel_left]
theorem dk_1 {code : ByteArray} {pc : Nat} (h : DkAt code pc [1]) : decode code pc = .ok (.aconst_null, 1) := dk_of ((dk_bind (dk_u1 (h 0 _ rfl))).trans rfl)
theorem dk_2 {code : ByteArray} {pc : Nat} (h : DkAt code pc [2]) : decode code pc = .ok (.iconst (-1), 1) := dk_of ((dk_bind (dk_u1 (h 0 _ rfl))).trans rfl)
theorem dk_3 {code : ByteArray} {pc : Nat} (h : DkAt code pc [3]) : decode code pc = .ok (.iconst 0, 1) := dk_of ((dk_bind (dk_u1 (h 0 _ rfl))).trans rfl)
theorem dk_4 {code : ByteArray} {pc : Nat} (h : DkAt code pc [4]) : decode code pc = .ok (.iconst 1, 1) := dk_of ((dk_bind (dk_u1 (h 0 _ rfl))).trans rfl)
theorem dk_5 {code : ByteArray} {pc : Nat} (h : DkAt code pc [5]) : decode code pc = .ok (.iconst 2, 1) := dk_of ((dk_bind (dk_u1 (h 0 _ rfl))).trans rfl)
theorem dk_6 {code : ByteArray} {pc : Nat} (h : DkAt code pc [6]) : decode code pc = .ok (.iconst 3, 1) := dk_of ((dk_bind (dk_u1 (h 0 _ rfl))).trans rfl)
theorem dk_7 {code : ByteArray} {pc : Nat} (h : DkAt code pc [7]) : decode code pc = .ok (.iconst 4, 1) := dk_of ((dk_bind (dk_u1 (h 0 _ rfl))).trans rfl)
theorem dk_8 {code : ByteArray} {pc : Nat} (h : DkAt code pc [8]) : decode code pc = .ok (.iconst 5, 1) := dk_of ((dk_bind (dk_u1 (h 0 _ rfl))).trans rfl)
theorem dk_9 {code : ByteArray} {pc : Nat} (h : DkAt code pc [9]) : decode code pc = .ok (.lconst 0, 1) := dk_of ((dk_bind (dk_u1 (h 0 _ rfl))).trans rfl)
theorem dk_10 {code : ByteArray} {pc : Nat} (h : DkAt code pc [10]) : decode code pc = .ok (.lconst 1, 1) := dk_of ((dk_bind (dk_u1 (h 0 _ rfl))).trans rfl)
theorem dk_16 {code : ByteArray} {pc : Nat} (a : UInt8) (h : DkAt code pc [16, a]) : decode code pc = .ok (.bipush (Reader.signed 8 a.toNat), 2) := dk_of ((dk_bind (dk_u1 (h 0 _ rfl))).trans ((dk_bind (dk_map (dk_u1 (h 1 _ rfl)))).trans rfl))
theorem dk_17 {code : ByteArray} {pc : Nat} (a b : UInt8) (h : DkAt code pc [17, a, b]) : decode code pc = .ok (.sipush (Reader.signed 16 (a.toNat * 256 + b.toNat)), 3) := dk_of ((dk_bind (dk_u1 (h 0 _ rfl))).trans ((dk_bind (dk_map (dk_u2 (h 1 _ rfl) (h 2 _ rfl)))).trans rfl))
theorem dk_18 {code : ByteArray} {pc : Nat} (a : UInt8) (h : DkAt code pc [18, a]) : decode code pc = .ok (.ldc a.toNat, 2) := dk_of ((dk_bind (dk_u1 (h 0 _ rfl))).trans ((dk_bind (dk_u1 (h 1 _ rfl))).trans rfl))
theorem dk_19 {code : ByteArray} {pc : Nat} (a b : UInt8) (h : DkAt code pc [19, a, b]) : decode code pc = .ok (.ldc_w (a.toNat * 256 + b.toNat), 3) := dk_of ((dk_bind (dk_u1 (h 0 _ rfl))).trans ((dk_bind (dk_u2 (h 1 _ rfl) (h 2 _ rfl))).trans rfl))
theorem dk_20 {code : ByteArray} {pc : Nat} (a b : UInt8) (h : DkAt code pc [20, a, b]) : decode code pc = .ok (.ldc2_w (a.toNat * 256 + b.toNat), 3) := dk_of ((dk_bind (dk_u1 (h 0 _ rfl))).trans ((dk_bind (dk_u2 (h 1 _ rfl) (h 2 _ rfl))).trans rfl))
theorem dk_21 {code : ByteArray} {pc : Nat} (a : UInt8) (h : DkAt code pc [21, a]) : decode code pc = .ok (.iload a.toNat, 2) := dk_of ((dk_bind (dk_u1 (h 0 _ rfl))).trans ((dk_bind (dk_u1 (h 1 _ rfl))).trans rfl))
theorem dk_22 {code : ByteArray} {pc : Nat} (a : UInt8) (h : DkAt code pc [22, a]) : decode code pc = .ok (.lload a.toNat, 2) := dk_of ((dk_bind (dk_u1 (h 0 _ rfl))).trans ((dk_bind (dk_u1 (h 1 _ rfl))).trans rfl))
theorem dk_25 {code : ByteArray} {pc : Nat} (a : UInt8) (h : DkAt code pc [25, a]) : decode code pc = .ok (.aload a.toNat, 2) := dk_of ((dk_bind (dk_u1 (h 0 _ rfl))).trans ((dk_bind (dk_u1 (h 1 _ rfl))).trans rfl))
theorem dk_26 {code : ByteArray} {pc : Nat} (h : DkAt code pc [26]) : decode code pc = .ok (.iload_n 0, 1) := dk_of ((dk_bind (dk_u1 (h 0 _ rfl))).trans rfl)
theorem dk_27 {code : ByteArray} {pc : Nat} (h : DkAt code pc [27]) : decode code pc = .ok (.iload_n 1, 1) := dk_of ((dk_bind (dk_u1 (h 0 _ rfl))).trans rfl)
theorem dk_28 {code : ByteArray} {pc : Nat} (h : DkAt code pc [28]) : decode code pc = .ok (.iload_n 2, 1) := dk_of ((dk_bind (dk_u1 (h 0 _ rfl))).trans rfl)
theorem dk_29 {code : ByteArray} {pc : Nat} (h : DkAt code pc [29]) : decode code pc = .ok (.iload_n 3, 1) := dk_of ((dk_bind (dk_u1 (h 0 _ rfl))).trans rfl)
theorem dk_30 {code : ByteArray} {pc : Nat} (h : DkAt code pc [30]) : decode code pc = .ok (.lload_n 0, 1) := dk_of ((dk_bind (dk_u1 (h 0 _ rfl))).trans rfl)
theorem dk_31 {code : ByteArray} {pc : Nat} (h : DkAt code pc [31]) : decode code pc = .ok (.lload_n 1, 1) := dk_of ((dk_bind (dk_u1 (h 0 _ rfl))).trans rfl)
theorem dk_32 {code : ByteArray} {pc : Nat} (h : DkAt code pc [32]) : decode code pc = .ok (.lload_n 2, 1) := dk_of ((dk_bind (dk_u1 (h 0 _ rfl))).trans rfl)
theorem dk_33 {code : ByteArray} {pc : Nat} (h : DkAt code pc [33]) : decode code pc = .ok (.lload_n 3, 1) := dk_of ((dk_bind (dk_u1 (h 0 _ rfl))).trans rfl)
theorem dk_42 {code : ByteArray} {pc : Nat} (h : DkAt code pc [42]) : decode code pc = .ok (.aload_n 0, 1) := dk_of ((dk_bind (dk_u1 (h 0 _ rfl))).trans rfl)
theorem dk_43 {code : ByteArray} {pc : Nat} (h : DkAt code pc [43]) : decode code pc = .ok (.aload_n 1, 1) := dk_of ((dk_bind (dk_u1 (h 0 _ rfl))).trans rfl)
theorem dk_44 {code : ByteArray} {pc : Nat} (h : DkAt code pc [44]) : decode code pc = .ok (.aload_n 2, 1) := dk_of ((dk_bind (dk_u1 (h 0 _ rfl))).trans rfl)
theorem dk_45 {code : ByteArray} {pc : Nat} (h : DkAt code pc [45]) : decode code pc = .ok (.aload_n 3, 1) := dk_of ((dk_bind (dk_u1 (h 0 _ rfl))).trans rfl)
theorem dk_46 {code : ByteArray} {pc : Nat} (h : DkAt code pc [46]) : decode code pc = .ok (.iaload, 1) := dk_of ((dk_bind (dk_u1 (h 0 _ rfl))).trans rfl)
theorem dk_47 {code : ByteArray} {pc : Nat} (h : DkAt code pc [47]) : decode code pc = .ok (.laload, 1) := dk_of ((dk_bind (dk_u1 (h 0 _ rfl))).trans rfl)
theorem dk_50 {code : ByteArray} {pc : Nat} (h : DkAt code pc [50]) : decode code pc = .ok (.aaload, 1) := dk_of ((dk_bind (dk_u1 (h 0 _ rfl))).trans rfl)
theorem dk_51 {code : ByteArray} {pc : Nat} (h : DkAt code pc [51]) : decode code pc = .ok (.baload, 1) := dk_of ((dk_bind (dk_u1 (h 0 _ rfl))).trans rfl)
theorem dk_54 {code : ByteArray} {pc : Nat} (a : UInt8) (h : DkAt code pc [54, a]) : decode code pc = .ok (.istore a.toNat, 2) := dk_of ((dk_bind (dk_u1 (h 0 _ rfl))).trans ((dk_bind (dk_u1 (h 1 _ rfl))).trans rfl))
theorem dk_55 {code : ByteArray} {pc : Nat} (a : UInt8) (h : DkAt code pc [55, a]) : decode code pc = .ok (.lstore a.toNat, 2) := dk_of ((dk_bind (dk_u1 (h 0 _ rfl))).trans ((dk_bind (dk_u1 (h 1 _ rfl))).trans rfl))
theorem dk_58 {code : ByteArray} {pc : Nat} (a : UInt8) (h : DkAt code pc [58, a]) : decode code pc = .ok (.astore a.toNat, 2) := dk_of ((dk_bind (dk_u1 (h 0 _ rfl))).trans ((dk_bind (dk_u1 (h 1 _ rfl))).trans rfl))
theorem dk_59 {code : ByteArray} {pc : Nat} (h : DkAt code pc [59]) : decode code pc = .ok (.istore_n 0, 1) := dk_of ((dk_bind (dk_u1 (h 0 _ rfl))).trans rfl)
theorem dk_60 {code : ByteArray} {pc : Nat} (h : DkAt code pc [60]) : decode code pc = .ok (.istore_n 1, 1) := dk_of ((dk_bind (dk_u1 (h 0 _ rfl))).trans rfl)
theorem dk_61 {code : ByteArray} {pc : Nat} (h : DkAt code pc [61]) : decode code pc = .ok (.istore_n 2, 1) := dk_of ((dk_bind (dk_u1 (h 0 _ rfl))).trans rfl)
theorem dk_62 {code : ByteArray} {pc : Nat} (h : DkAt code pc [62]) : decode code pc = .ok (.istore_n 3, 1) := dk_of ((dk_bind (dk_u1 (h 0 _ rfl))).trans rfl)
theorem dk_65 {code : ByteArray} {pc : Nat} (h : DkAt code pc [65]) : decode code pc = .ok (.lstore_n 2, 1) := dk_of ((dk_bind (dk_u1 (h 0 _ rfl))).trans rfl)
theorem dk_66 {code : ByteArray} {pc : Nat} (h : DkAt code pc [66]) : decode code pc = .ok (.lstore_n 3, 1) := dk_of ((dk_bind (dk_u1 (h 0 _ rfl))).trans rfl)
theorem dk_76 {code : ByteArray} {pc : Nat} (h : DkAt code pc [76]) : decode code pc = .ok (.astore_n 1, 1) := dk_of ((dk_bind (dk_u1 (h 0 _ rfl))).trans rfl)
theorem dk_77 {code : ByteArray} {pc : Nat} (h : DkAt code pc [77]) : decode code pc = .ok (.astore_n 2, 1) := dk_of ((dk_bind (dk_u1 (h 0 _ rfl))).trans rfl)
theorem dk_78 {code : ByteArray} {pc : Nat} (h : DkAt code pc [78]) : decode code pc = .ok (.astore_n 3, 1) := dk_of ((dk_bind (dk_u1 (h 0 _ rfl))).trans rfl)
theorem dk_79 {code : ByteArray} {pc : Nat} (h : DkAt code pc [79]) : decode code pc = .ok (.iastore, 1) := dk_of ((dk_bind (dk_u1 (h 0 _ rfl))).trans rfl)
theorem dk_80 {code : ByteArray} {pc : Nat} (h : DkAt code pc [80]) : decode code pc = .ok (.lastore, 1) := dk_of ((dk_bind (dk_u1 (h 0 _ rfl))).trans rfl)
theorem dk_83 {code : ByteArray} {pc : Nat} (h : DkAt code pc [83]) : decode code pc = .ok (.aastore, 1) := dk_of ((dk_bind (dk_u1 (h 0 _ rfl))).trans rfl)
theorem dk_84 {code : ByteArray} {pc : Nat} (h : DkAt code pc [84]) : decode code pc = .ok (.bastore, 1) := dk_of ((dk_bind (dk_u1 (h 0 _ rfl))).trans rfl)
theorem dk_87 {code : ByteArray} {pc : Nat} (h : DkAt code pc [87]) : decode code pc = .ok (.pop, 1) := dk_of ((dk_bind (dk_u1 (h 0 _ rfl))).trans rfl)
theorem dk_89 {code : ByteArray} {pc : Nat} (h : DkAt code pc [89]) : decode code pc = .ok (.dup, 1) := dk_of ((dk_bind (dk_u1 (h 0 _ rfl))).trans rfl)
theorem dk_92 {code : ByteArray} {pc : Nat} (h : DkAt code pc [92]) : decode code pc = .ok (.dup2, 1) := dk_of ((dk_bind (dk_u1 (h 0 _ rfl))).trans rfl)
theorem dk_96 {code : ByteArray} {pc : Nat} (h : DkAt code pc [96]) : decode code pc = .ok (.iadd, 1) := dk_of ((dk_bind (dk_u1 (h 0 _ rfl))).trans rfl)
theorem dk_97 {code : ByteArray} {pc : Nat} (h : DkAt code pc [97]) : decode code pc = .ok (.ladd, 1) := dk_of ((dk_bind (dk_u1 (h 0 _ rfl))).trans rfl)
theorem dk_100 {code : ByteArray} {pc : Nat} (h : DkAt code pc [100]) : decode code pc = .ok (.isub, 1) := dk_of ((dk_bind (dk_u1 (h 0 _ rfl))).trans rfl)
theorem dk_101 {code : ByteArray} {pc : Nat} (h : DkAt code pc [101]) : decode code pc = .ok (.lsub, 1) := dk_of ((dk_bind (dk_u1 (h 0 _ rfl))).trans rfl)
theorem dk_104 {code : ByteArray} {pc : Nat} (h : DkAt code pc [104]) : decode code pc = .ok (.imul, 1) := dk_of ((dk_bind (dk_u1 (h 0 _ rfl))).trans rfl)
theorem dk_105 {code : ByteArray} {pc : Nat} (h : DkAt code pc [105]) : decode code pc = .ok (.lmul, 1) := dk_of ((dk_bind (dk_u1 (h 0 _ rfl))).trans rfl)
theorem dk_108 {code : ByteArray} {pc : Nat} (h : DkAt code pc [108]) : decode code pc = .ok (.idiv, 1) := dk_of ((dk_bind (dk_u1 (h 0 _ rfl))).trans rfl)
theorem dk_109 {code : ByteArray} {pc : Nat} (h : DkAt code pc [109]) : decode code pc = .ok (.ldiv, 1) := dk_of ((dk_bind (dk_u1 (h 0 _ rfl))).trans rfl)
theorem dk_112 {code : ByteArray} {pc : Nat} (h : DkAt code pc [112]) : decode code pc = .ok (.irem, 1) := dk_of ((dk_bind (dk_u1 (h 0 _ rfl))).trans rfl)
theorem dk_113 {code : ByteArray} {pc : Nat} (h : DkAt code pc [113]) : decode code pc = .ok (.lrem, 1) := dk_of ((dk_bind (dk_u1 (h 0 _ rfl))).trans rfl)
theorem dk_116 {code : ByteArray} {pc : Nat} (h : DkAt code pc [116]) : decode code pc = .ok (.ineg, 1) := dk_of ((dk_bind (dk_u1 (h 0 _ rfl))).trans rfl)
theorem dk_117 {code : ByteArray} {pc : Nat} (h : DkAt code pc [117]) : decode code pc = .ok (.lneg, 1) := dk_of ((dk_bind (dk_u1 (h 0 _ rfl))).trans rfl)
theorem dk_120 {code : ByteArray} {pc : Nat} (h : DkAt code pc [120]) : decode code pc = .ok (.ishl, 1) := dk_of ((dk_bind (dk_u1 (h 0 _ rfl))).trans rfl)
theorem dk_121 {code : ByteArray} {pc : Nat} (h : DkAt code pc [121]) : decode code pc = .ok (.lshl, 1) := dk_of ((dk_bind (dk_u1 (h 0 _ rfl))).trans rfl)
theorem dk_122 {code : ByteArray} {pc : Nat} (h : DkAt code pc [122]) : decode code pc = .ok (.ishr, 1) := dk_of ((dk_bind (dk_u1 (h 0 _ rfl))).trans rfl)
theorem dk_124 {code : ByteArray} {pc : Nat} (h : DkAt code pc [124]) : decode code pc = .ok (.iushr, 1) := dk_of ((dk_bind (dk_u1 (h 0 _ rfl))).trans rfl)
theorem dk_126 {code : ByteArray} {pc : Nat} (h : DkAt code pc [126]) : decode code pc = .ok (.iand, 1) := dk_of ((dk_bind (dk_u1 (h 0 _ rfl))).trans rfl)
theorem dk_128 {code : ByteArray} {pc : Nat} (h : DkAt code pc [128]) : decode code pc = .ok (.ior, 1) := dk_of ((dk_bind (dk_u1 (h 0 _ rfl))).trans rfl)
theorem dk_129 {code : ByteArray} {pc : Nat} (h : DkAt code pc [129]) : decode code pc = .ok (.lor, 1) := dk_of ((dk_bind (dk_u1 (h 0 _ rfl))).trans rfl)
theorem dk_130 {code : ByteArray} {pc : Nat} (h : DkAt code pc [130]) : decode code pc = .ok (.ixor, 1) := dk_of ((dk_bind (dk_u1 (h 0 _ rfl))).trans rfl)
theorem dk_132 {code : ByteArray} {pc : Nat} (a b : UInt8) (h : DkAt code pc [132, a, b]) : decode code pc = .ok (.iinc a.toNat (Reader.signed 8 b.toNat), 3) := dk_of ((dk_bind (dk_u1 (h 0 _ rfl))).trans ((dk_bind (dk_u1 (h 1 _ rfl))).trans ((dk_bind (dk_map (dk_u1 (h 2 _ rfl)))).trans rfl)))
theorem dk_133 {code : ByteArray} {pc : Nat} (h : DkAt code pc [133]) : decode code pc = .ok (.i2l, 1) := dk_of ((dk_bind (dk_u1 (h 0 _ rfl))).trans rfl)
theorem dk_136 {code : ByteArray} {pc : Nat} (h : DkAt code pc [136]) : decode code pc = .ok (.l2i, 1) := dk_of ((dk_bind (dk_u1 (h 0 _ rfl))).trans rfl)
theorem dk_145 {code : ByteArray} {pc : Nat} (h : DkAt code pc [145]) : decode code pc = .ok (.i2b, 1) := dk_of ((dk_bind (dk_u1 (h 0 _ rfl))).trans rfl)
theorem dk_148 {code : ByteArray} {pc : Nat} (h : DkAt code pc [148]) : decode code pc = .ok (.lcmp, 1) := dk_of ((dk_bind (dk_u1 (h 0 _ rfl))).trans rfl)
theorem dk_153 {code : ByteArray} {pc : Nat} (a b : UInt8) (h : DkAt code pc [153, a, b]) : decode code pc = .ok (.ifCond .eq (Reader.signed 16 (a.toNat * 256 + b.toNat)), 3) := dk_of ((dk_bind (dk_u1 (h 0 _ rfl))).trans ((dk_bind (dk_map (dk_u2 (h 1 _ rfl) (h 2 _ rfl)))).trans rfl))
theorem dk_154 {code : ByteArray} {pc : Nat} (a b : UInt8) (h : DkAt code pc [154, a, b]) : decode code pc = .ok (.ifCond .ne (Reader.signed 16 (a.toNat * 256 + b.toNat)), 3) := dk_of ((dk_bind (dk_u1 (h 0 _ rfl))).trans ((dk_bind (dk_map (dk_u2 (h 1 _ rfl) (h 2 _ rfl)))).trans rfl))
theorem dk_155 {code : ByteArray} {pc : Nat} (a b : UInt8) (h : DkAt code pc [155, a, b]) : decode code pc = .ok (.ifCond .lt (Reader.signed 16 (a.toNat * 256 + b.toNat)), 3) := dk_of ((dk_bind (dk_u1 (h 0 _ rfl))).trans ((dk_bind (dk_map (dk_u2 (h 1 _ rfl) (h 2 _ rfl)))).trans rfl))
theorem dk_156 {code : ByteArray} {pc : Nat} (a b : UInt8) (h : DkAt code pc [156, a, b]) : decode code pc = .ok (.ifCond .ge (Reader.signed 16 (a.toNat * 256 + b.toNat)), 3) := dk_of ((dk_bind (dk_u1 (h 0 _ rfl))).trans ((dk_bind (dk_map (dk_u2 (h 1 _ rfl) (h 2 _ rfl)))).trans rfl))
theorem dk_157 {code : ByteArray} {pc : Nat} (a b : UInt8) (h : DkAt code pc [157, a, b]) : decode code pc = .ok (.ifCond .gt (Reader.signed 16 (a.toNat * 256 + b.toNat)), 3) := dk_of ((dk_bind (dk_u1 (h 0 _ rfl))).trans ((dk_bind (dk_map (dk_u2 (h 1 _ rfl) (h 2 _ rfl)))).trans rfl))
theorem dk_158 {code : ByteArray} {pc : Nat} (a b : UInt8) (h : DkAt code pc [158, a, b]) : decode code pc = .ok (.ifCond .le (Reader.signed 16 (a.toNat * 256 + b.toNat)), 3) := dk_of ((dk_bind (dk_u1 (h 0 _ rfl))).trans ((dk_bind (dk_map (dk_u2 (h 1 _ rfl) (h 2 _ rfl)))).trans rfl))
theorem dk_159 {code : ByteArray} {pc : Nat} (a b : UInt8) (h : DkAt code pc [159, a, b]) : decode code pc = .ok (.if_icmp .eq (Reader.signed 16 (a.toNat * 256 + b.toNat)), 3) := dk_of ((dk_bind (dk_u1 (h 0 _ rfl))).trans ((dk_bind (dk_map (dk_u2 (h 1 _ rfl) (h 2 _ rfl)))).trans rfl))
theorem dk_160 {code : ByteArray} {pc : Nat} (a b : UInt8) (h : DkAt code pc [160, a, b]) : decode code pc = .ok (.if_icmp .ne (Reader.signed 16 (a.toNat * 256 + b.toNat)), 3) := dk_of ((dk_bind (dk_u1 (h 0 _ rfl))).trans ((dk_bind (dk_map (dk_u2 (h 1 _ rfl) (h 2 _ rfl)))).trans rfl))
theorem dk_161 {code : ByteArray} {pc : Nat} (a b : UInt8) (h : DkAt code pc [161, a, b]) : decode code pc = .ok (.if_icmp .lt (Reader.signed 16 (a.toNat * 256 + b.toNat)), 3) := dk_of ((dk_bind (dk_u1 (h 0 _ rfl))).trans ((dk_bind (dk_map (dk_u2 (h 1 _ rfl) (h 2 _ rfl)))).trans rfl))
theorem dk_162 {code : ByteArray} {pc : Nat} (a b : UInt8) (h : DkAt code pc [162, a, b]) : decode code pc = .ok (.if_icmp .ge (Reader.signed 16 (a.toNat * 256 + b.toNat)), 3) := dk_of ((dk_bind (dk_u1 (h 0 _ rfl))).trans ((dk_bind (dk_map (dk_u2 (h 1 _ rfl) (h 2 _ rfl)))).trans rfl))
theorem dk_163 {code : ByteArray} {pc : Nat} (a b : UInt8) (h : DkAt code pc [163, a, b]) : decode code pc = .ok (.if_icmp .gt (Reader.signed 16 (a.toNat * 256 + b.toNat)), 3) := dk_of ((dk_bind (dk_u1 (h 0 _ rfl))).trans ((dk_bind (dk_map (dk_u2 (h 1 _ rfl) (h 2 _ rfl)))).trans rfl))
theorem dk_164 {code : ByteArray} {pc : Nat} (a b : UInt8) (h : DkAt code pc [164, a, b]) : decode code pc = .ok (.if_icmp .le (Reader.signed 16 (a.toNat * 256 + b.toNat)), 3) := dk_of ((dk_bind (dk_u1 (h 0 _ rfl))).trans ((dk_bind (dk_map (dk_u2 (h 1 _ rfl) (h 2 _ rfl)))).trans rfl))
theorem dk_166 {code : ByteArray} {pc : Nat} (a b : UInt8) (h : DkAt code pc [166, a, b]) : decode code pc = .ok (.if_acmp .ne (Reader.signed 16 (a.toNat * 256 + b.toNat)), 3) := dk_of ((dk_bind (dk_u1 (h 0 _ rfl))).trans ((dk_bind (dk_map (dk_u2 (h 1 _ rfl) (h 2 _ rfl)))).trans rfl))
theorem dk_167 {code : ByteArray} {pc : Nat} (a b : UInt8) (h : DkAt code pc [167, a, b]) : decode code pc = .ok (.goto (Reader.signed 16 (a.toNat * 256 + b.toNat)), 3) := dk_of ((dk_bind (dk_u1 (h 0 _ rfl))).trans ((dk_bind (dk_map (dk_u2 (h 1 _ rfl) (h 2 _ rfl)))).trans rfl))
theorem dk_172 {code : ByteArray} {pc : Nat} (h : DkAt code pc [172]) : decode code pc = .ok (.ireturn, 1) := dk_of ((dk_bind (dk_u1 (h 0 _ rfl))).trans rfl)
theorem dk_173 {code : ByteArray} {pc : Nat} (h : DkAt code pc [173]) : decode code pc = .ok (.lreturn, 1) := dk_of ((dk_bind (dk_u1 (h 0 _ rfl))).trans rfl)
theorem dk_176 {code : ByteArray} {pc : Nat} (h : DkAt code pc [176]) : decode code pc = .ok (.areturn, 1) := dk_of ((dk_bind (dk_u1 (h 0 _ rfl))).trans rfl)
theorem dk_177 {code : ByteArray} {pc : Nat} (h : DkAt code pc [177]) : decode code pc = .ok (.return_, 1) := dk_of ((dk_bind (dk_u1 (h 0 _ rfl))).trans rfl)
theorem dk_178 {code : ByteArray} {pc : Nat} (a b : UInt8) (h : DkAt code pc [178, a, b]) : decode code pc = .ok (.getstatic (a.toNat * 256 + b.toNat), 3) := dk_of ((dk_bind (dk_u1 (h 0 _ rfl))).trans ((dk_bind (dk_u2 (h 1 _ rfl) (h 2 _ rfl))).trans rfl))
theorem dk_180 {code : ByteArray} {pc : Nat} (a b : UInt8) (h : DkAt code pc [180, a, b]) : decode code pc = .ok (.getfield (a.toNat * 256 + b.toNat), 3) := dk_of ((dk_bind (dk_u1 (h 0 _ rfl))).trans ((dk_bind (dk_u2 (h 1 _ rfl) (h 2 _ rfl))).trans rfl))
theorem dk_181 {code : ByteArray} {pc : Nat} (a b : UInt8) (h : DkAt code pc [181, a, b]) : decode code pc = .ok (.putfield (a.toNat * 256 + b.toNat), 3) := dk_of ((dk_bind (dk_u1 (h 0 _ rfl))).trans ((dk_bind (dk_u2 (h 1 _ rfl) (h 2 _ rfl))).trans rfl))
theorem dk_182 {code : ByteArray} {pc : Nat} (a b : UInt8) (h : DkAt code pc [182, a, b]) : decode code pc = .ok (.invokevirtual (a.toNat * 256 + b.toNat), 3) := dk_of ((dk_bind (dk_u1 (h 0 _ rfl))).trans ((dk_bind (dk_u2 (h 1 _ rfl) (h 2 _ rfl))).trans rfl))
theorem dk_183 {code : ByteArray} {pc : Nat} (a b : UInt8) (h : DkAt code pc [183, a, b]) : decode code pc = .ok (.invokespecial (a.toNat * 256 + b.toNat), 3) := dk_of ((dk_bind (dk_u1 (h 0 _ rfl))).trans ((dk_bind (dk_u2 (h 1 _ rfl) (h 2 _ rfl))).trans rfl))
theorem dk_184 {code : ByteArray} {pc : Nat} (a b : UInt8) (h : DkAt code pc [184, a, b]) : decode code pc = .ok (.invokestatic (a.toNat * 256 + b.toNat), 3) := dk_of ((dk_bind (dk_u1 (h 0 _ rfl))).trans ((dk_bind (dk_u2 (h 1 _ rfl) (h 2 _ rfl))).trans rfl))
theorem dk_187 {code : ByteArray} {pc : Nat} (a b : UInt8) (h : DkAt code pc [187, a, b]) : decode code pc = .ok (.new (a.toNat * 256 + b.toNat), 3) := dk_of ((dk_bind (dk_u1 (h 0 _ rfl))).trans ((dk_bind (dk_u2 (h 1 _ rfl) (h 2 _ rfl))).trans rfl))
theorem dk_188_4 {code : ByteArray} {pc : Nat} (h : DkAt code pc [188, 4]) : decode code pc = .ok (.newarray .boolean, 2) := dk_of ((dk_bind (dk_u1 (h 0 _ rfl))).trans ((dk_bind (dk_u1 (h 1 _ rfl))).trans rfl))
theorem dk_188_8 {code : ByteArray} {pc : Nat} (h : DkAt code pc [188, 8]) : decode code pc = .ok (.newarray .byte, 2) := dk_of ((dk_bind (dk_u1 (h 0 _ rfl))).trans ((dk_bind (dk_u1 (h 1 _ rfl))).trans rfl))
theorem dk_188_10 {code : ByteArray} {pc : Nat} (h : DkAt code pc [188, 10]) : decode code pc = .ok (.newarray .int, 2) := dk_of ((dk_bind (dk_u1 (h 0 _ rfl))).trans ((dk_bind (dk_u1 (h 1 _ rfl))).trans rfl))
theorem dk_188_11 {code : ByteArray} {pc : Nat} (h : DkAt code pc [188, 11]) : decode code pc = .ok (.newarray .long, 2) := dk_of ((dk_bind (dk_u1 (h 0 _ rfl))).trans ((dk_bind (dk_u1 (h 1 _ rfl))).trans rfl))
theorem dk_189 {code : ByteArray} {pc : Nat} (a b : UInt8) (h : DkAt code pc [189, a, b]) : decode code pc = .ok (.anewarray (a.toNat * 256 + b.toNat), 3) := dk_of ((dk_bind (dk_u1 (h 0 _ rfl))).trans ((dk_bind (dk_u2 (h 1 _ rfl) (h 2 _ rfl))).trans rfl))
theorem dk_190 {code : ByteArray} {pc : Nat} (h : DkAt code pc [190]) : decode code pc = .ok (.arraylength, 1) := dk_of ((dk_bind (dk_u1 (h 0 _ rfl))).trans rfl)
theorem dk_192 {code : ByteArray} {pc : Nat} (a b : UInt8) (h : DkAt code pc [192, a, b]) : decode code pc = .ok (.checkcast (a.toNat * 256 + b.toNat), 3) := dk_of ((dk_bind (dk_u1 (h 0 _ rfl))).trans ((dk_bind (dk_u2 (h 1 _ rfl) (h 2 _ rfl))).trans rfl))
theorem dk_193 {code : ByteArray} {pc : Nat} (a b : UInt8) (h : DkAt code pc [193, a, b]) : decode code pc = .ok (.instanceof (a.toNat * 256 + b.toNat), 3) := dk_of ((dk_bind (dk_u1 (h 0 _ rfl))).trans ((dk_bind (dk_u2 (h 1 _ rfl) (h 2 _ rfl))).trans rfl))
theorem dk_198 {code : ByteArray} {pc : Nat} (a b : UInt8) (h : DkAt code pc [198, a, b]) : decode code pc = .ok (.ifnull (Reader.signed 16 (a.toNat * 256 + b.toNat)), 3) := dk_of ((dk_bind (dk_u1 (h 0 _ rfl))).trans ((dk_bind (dk_map (dk_u2 (h 1 _ rfl) (h 2 _ rfl)))).trans rfl))
theorem dk_199 {code : ByteArray} {pc : Nat} (a b : UInt8) (h : DkAt code pc [199, a, b]) : decode code pc = .ok (.ifnonnull (Reader.signed 16 (a.toNat * 256 + b.toNat)), 3) := dk_of ((dk_bind (dk_u1 (h 0 _ rfl))).trans ((dk_bind (dk_map (dk_u2 (h 1 _ rfl) (h 2 _ rfl)))).trans rfl))
/-! LoanNames$Law -/
set_option maxRecDepth 100000
def RX1 : String := "LoanNames$Law"
def TX1 : u_T := fun k => match k with
  | 0 => ("LoanNames$Law", "rules", "[LLoanNames$Rule;", true)
  | _ => ("LoanNames$Law", "many", "I", false)
def tyX1 : Nat → FieldType := fun k => match k with
  | 0 => .array (.object "LoanNames$Rule")
  | _ => .int
abbrev wsX10 : List Cond := u_ws RX1 TX1 2
theorem nmX1 : ∀ a, a < 2 → ∀ b, b < 2 → a ≠ b → (TX1 a).2.1 ≠ (TX1 b).2.1 := by decide +kernel
theorem tyX1_ok : ∀ k, k < 2 → parseFieldDescriptor (TX1 k).2.2.1 = some (tyX1 k) := by decide +kernel
abbrev cX1_init : ByteArray := prog_11_method_1_code
def yX1_init : MethodName := ⟨RX1, "<init>", "()V"⟩
def dkwX1_init_0 : List UInt8 := [42, 183, 0, 3, 42, 16, 16, 189, 0, 9, 181, 0, 11, 177]
abbrev dktX1_init_0 : List UInt8 := dkwX1_init_0 ++ []
theorem dksX1_init_0 : cX1_init.data.toList.drop 0 = dktX1_init_0 := by decide +kernel
theorem dX1_init_0 : decode cX1_init 0 = .ok (.aload_n 0, 1) := dk_42 (dk_at dksX1_init_0 0 rfl rfl)
theorem dX1_init_1 : decode cX1_init 1 = .ok (.invokespecial 3, 3) := dk_183 0 3 (dk_at dksX1_init_0 1 rfl rfl)
theorem dX1_init_4 : decode cX1_init 4 = .ok (.aload_n 0, 1) := dk_42 (dk_at dksX1_init_0 4 rfl rfl)
theorem dX1_init_5 : decode cX1_init 5 = .ok (.bipush 16, 2) := dk_16 16 (dk_at dksX1_init_0 5 rfl rfl)
theorem dX1_init_7 : decode cX1_init 7 = .ok (.anewarray 9, 3) := dk_189 0 9 (dk_at dksX1_init_0 7 rfl rfl)
theorem dX1_init_10 : decode cX1_init 10 = .ok (.putfield 11, 3) := dk_181 0 11 (dk_at dksX1_init_0 10 rfl rfl)
theorem dX1_init_13 : decode cX1_init 13 = .ok (.return_, 1) := dk_177 (dk_at dksX1_init_0 13 rfl rfl)
theorem q92 : (Jvm.Cond.initialized "LoanNames$Law") ∈ lw_all := lw_g (lw_at lw_m1 2 rfl) rfl
theorem q131 : (Jvm.Cond.instantiable "LoanNames$Law" (2 : Nat)) ∈ lw_all := lw_g (lw_at lw_m1 41 rfl) rfl
theorem q133 : (Jvm.Cond.instanceMethod ({ cls := "LoanNames$Law", name := "<init>", desc := "()V" } : Jvm.MethodName)) ∈ lw_all := lw_g (lw_at lw_m1 43 rfl) rfl
theorem q134 : (Jvm.Cond.code ({ cls := "LoanNames$Law", name := "<init>", desc := "()V" } : Jvm.MethodName) prog_11_method_1_code (1 : Nat) (Option.none : Option Jvm.ClassFile.FieldType)) ∈ lw_all := lw_g (lw_at lw_m1 44 rfl) rfl
theorem q135 : (Jvm.Cond.methodLink "LoanNames$Law" (3 : Nat) ({ cls := "java/lang/Object", name := "<init>", desc := "()V" } : Jvm.MethodName)) ∈ lw_all := lw_g (lw_at lw_m1 45 rfl) rfl
theorem q136 : (Jvm.Cond.classLink "LoanNames$Law" (9 : Nat) "LoanNames$Rule") ∈ lw_all := lw_g (lw_at lw_m1 46 rfl) rfl
theorem q138 : (Jvm.Cond.fieldLink "LoanNames$Law" (11 : Nat) "LoanNames$Law" "rules" "[LLoanNames$Rule;") ∈ lw_all := lw_g (lw_at lw_m1 48 rfl) rfl
theorem q145 : (Jvm.Cond.laysFinal "LoanNames$Law" "LoanNames$Law" "rules" "[LLoanNames$Rule;") ∈ lw_all := lw_g (lw_at lw_m1 55 rfl) rfl
theorem q146 : (Jvm.Cond.soleField "LoanNames$Law" "rules") ∈ lw_all := lw_g (lw_at lw_m1 56 rfl) rfl
theorem q147 : (Jvm.Cond.lays "LoanNames$Law" "LoanNames$Law" "many" "I") ∈ lw_all := lw_g (lw_at lw_m1 57 rfl) rfl
theorem q148 : (Jvm.Cond.soleField "LoanNames$Law" "many") ∈ lw_all := lw_g (lw_at lw_m1 58 rfl) rfl
theorem q149 : (Jvm.Cond.superclass "LoanNames$Law" "java/lang/Object") ∈ lw_all := lw_g (lw_at lw_m1 59 rfl) rfl
theorem in_X1 : ∀ w ∈ wsX10, w ∈ lw_all := lw_in wsX10 [145, 147] (by decide +kernel) (by decide +kernel)
/-! LoanNames$LeafRow -/
set_option maxRecDepth 100000
def RX3 : String := "LoanNames$LeafRow"
def TX3 : u_T := fun k => match k with
  | 0 => ("LoanNames$LeafRow", "leaves", "[LLoanNames$Leaf;", true)
  | 1 => ("LoanNames$LeafRow", "shifts", "[I", true)
  | _ => ("LoanNames$LeafRow", "many", "I", false)
def tyX3 : Nat → FieldType := fun k => match k with
  | 0 => .array (.object "LoanNames$Leaf")
  | 1 => .array .int
  | _ => .int
abbrev wsX30 : List Cond := u_ws RX3 TX3 3
theorem nmX3 : ∀ a, a < 3 → ∀ b, b < 3 → a ≠ b → (TX3 a).2.1 ≠ (TX3 b).2.1 := by decide +kernel
theorem tyX3_ok : ∀ k, k < 3 → parseFieldDescriptor (TX3 k).2.2.1 = some (tyX3 k) := by decide +kernel
abbrev cX3_init : ByteArray := prog_14_method_1_code
def yX3_init : MethodName := ⟨RX3, "<init>", "()V"⟩
def dkwX3_init_0 : List UInt8 := [42, 183, 0, 3, 42, 16, 72, 189, 0, 9, 181, 0, 11, 42, 16, 72, 188, 10, 181, 0, 17, 177]
abbrev dktX3_init_0 : List UInt8 := dkwX3_init_0 ++ []
theorem dksX3_init_0 : cX3_init.data.toList.drop 0 = dktX3_init_0 := by decide +kernel
theorem dX3_init_0 : decode cX3_init 0 = .ok (.aload_n 0, 1) := dk_42 (dk_at dksX3_init_0 0 rfl rfl)
theorem dX3_init_1 : decode cX3_init 1 = .ok (.invokespecial 3, 3) := dk_183 0 3 (dk_at dksX3_init_0 1 rfl rfl)
theorem dX3_init_4 : decode cX3_init 4 = .ok (.aload_n 0, 1) := dk_42 (dk_at dksX3_init_0 4 rfl rfl)
theorem dX3_init_5 : decode cX3_init 5 = .ok (.bipush 72, 2) := dk_16 72 (dk_at dksX3_init_0 5 rfl rfl)
theorem dX3_init_7 : decode cX3_init 7 = .ok (.anewarray 9, 3) := dk_189 0 9 (dk_at dksX3_init_0 7 rfl rfl)
theorem dX3_init_10 : decode cX3_init 10 = .ok (.putfield 11, 3) := dk_181 0 11 (dk_at dksX3_init_0 10 rfl rfl)
theorem dX3_init_13 : decode cX3_init 13 = .ok (.aload_n 0, 1) := dk_42 (dk_at dksX3_init_0 13 rfl rfl)
theorem dX3_init_14 : decode cX3_init 14 = .ok (.bipush 72, 2) := dk_16 72 (dk_at dksX3_init_0 14 rfl rfl)
theorem dX3_init_16 : decode cX3_init 16 = .ok (.newarray .int, 2) := dk_188_10 (dk_at dksX3_init_0 16 rfl rfl)
theorem dX3_init_18 : decode cX3_init 18 = .ok (.putfield 17, 3) := dk_181 0 17 (dk_at dksX3_init_0 18 rfl rfl)
theorem dX3_init_21 : decode cX3_init 21 = .ok (.return_, 1) := dk_177 (dk_at dksX3_init_0 21 rfl rfl)
abbrev cX3_add : ByteArray := prog_14_method_2_code
def yX3_add : MethodName := ⟨RX3, "add", "(LLoanNames$Leaf;I)V"⟩
def dkwX3_add_1 : List UInt8 := [180, 0, 21, 4, 96, 181, 0, 21, 177]
abbrev dktX3_add_1 : List UInt8 := dkwX3_add_1 ++ []
def dkwX3_add_0 : List UInt8 := [42, 180, 0, 11, 42, 180, 0, 21, 43, 83, 42, 180, 0, 17, 42, 180, 0, 21, 28, 79, 42, 89]
abbrev dktX3_add_0 : List UInt8 := dkwX3_add_0 ++ dktX3_add_1
theorem dksX3_add_0 : cX3_add.data.toList.drop 0 = dktX3_add_0 := by decide +kernel
theorem dksX3_add_1 : cX3_add.data.toList.drop 22 = dktX3_add_1 := dk_seg dksX3_add_0 22 rfl rfl
theorem dX3_add_0 : decode cX3_add 0 = .ok (.aload_n 0, 1) := dk_42 (dk_at dksX3_add_0 0 rfl rfl)
theorem dX3_add_1 : decode cX3_add 1 = .ok (.getfield 11, 3) := dk_180 0 11 (dk_at dksX3_add_0 1 rfl rfl)
theorem dX3_add_4 : decode cX3_add 4 = .ok (.aload_n 0, 1) := dk_42 (dk_at dksX3_add_0 4 rfl rfl)
theorem dX3_add_5 : decode cX3_add 5 = .ok (.getfield 21, 3) := dk_180 0 21 (dk_at dksX3_add_0 5 rfl rfl)
theorem dX3_add_8 : decode cX3_add 8 = .ok (.aload_n 1, 1) := dk_43 (dk_at dksX3_add_0 8 rfl rfl)
theorem dX3_add_9 : decode cX3_add 9 = .ok (.aastore, 1) := dk_83 (dk_at dksX3_add_0 9 rfl rfl)
theorem dX3_add_10 : decode cX3_add 10 = .ok (.aload_n 0, 1) := dk_42 (dk_at dksX3_add_0 10 rfl rfl)
theorem dX3_add_11 : decode cX3_add 11 = .ok (.getfield 17, 3) := dk_180 0 17 (dk_at dksX3_add_0 11 rfl rfl)
theorem dX3_add_14 : decode cX3_add 14 = .ok (.aload_n 0, 1) := dk_42 (dk_at dksX3_add_0 14 rfl rfl)
theorem dX3_add_15 : decode cX3_add 15 = .ok (.getfield 21, 3) := dk_180 0 21 (dk_at dksX3_add_0 15 rfl rfl)
theorem dX3_add_18 : decode cX3_add 18 = .ok (.iload_n 2, 1) := dk_28 (dk_at dksX3_add_0 18 rfl rfl)
theorem dX3_add_19 : decode cX3_add 19 = .ok (.iastore, 1) := dk_79 (dk_at dksX3_add_0 19 rfl rfl)
theorem dX3_add_20 : decode cX3_add 20 = .ok (.aload_n 0, 1) := dk_42 (dk_at dksX3_add_0 20 rfl rfl)
theorem dX3_add_21 : decode cX3_add 21 = .ok (.dup, 1) := dk_89 (dk_at dksX3_add_0 21 rfl rfl)
theorem dX3_add_22 : decode cX3_add 22 = .ok (.getfield 21, 3) := dk_180 0 21 (dk_at dksX3_add_1 0 rfl rfl)
theorem dX3_add_25 : decode cX3_add 25 = .ok (.iconst 1, 1) := dk_4 (dk_at dksX3_add_1 3 rfl rfl)
theorem dX3_add_26 : decode cX3_add 26 = .ok (.iadd, 1) := dk_96 (dk_at dksX3_add_1 4 rfl rfl)
theorem dX3_add_27 : decode cX3_add 27 = .ok (.putfield 21, 3) := dk_181 0 21 (dk_at dksX3_add_1 5 rfl rfl)
theorem dX3_add_30 : decode cX3_add 30 = .ok (.return_, 1) := dk_177 (dk_at dksX3_add_1 8 rfl rfl)
abbrev cX3_at : ByteArray := prog_14_method_3_code
def yX3_at : MethodName := ⟨RX3, "at", "(I)I"⟩
def dkwX3_at_0 : List UInt8 := [42, 180, 0, 11, 27, 50, 180, 0, 25, 42, 180, 0, 17, 27, 46, 96, 172]
abbrev dktX3_at_0 : List UInt8 := dkwX3_at_0 ++ []
theorem dksX3_at_0 : cX3_at.data.toList.drop 0 = dktX3_at_0 := by decide +kernel
theorem dX3_at_0 : decode cX3_at 0 = .ok (.aload_n 0, 1) := dk_42 (dk_at dksX3_at_0 0 rfl rfl)
theorem dX3_at_1 : decode cX3_at 1 = .ok (.getfield 11, 3) := dk_180 0 11 (dk_at dksX3_at_0 1 rfl rfl)
theorem dX3_at_4 : decode cX3_at 4 = .ok (.iload_n 1, 1) := dk_27 (dk_at dksX3_at_0 4 rfl rfl)
theorem dX3_at_5 : decode cX3_at 5 = .ok (.aaload, 1) := dk_50 (dk_at dksX3_at_0 5 rfl rfl)
theorem dX3_at_6 : decode cX3_at 6 = .ok (.getfield 25, 3) := dk_180 0 25 (dk_at dksX3_at_0 6 rfl rfl)
theorem dX3_at_9 : decode cX3_at 9 = .ok (.aload_n 0, 1) := dk_42 (dk_at dksX3_at_0 9 rfl rfl)
theorem dX3_at_10 : decode cX3_at 10 = .ok (.getfield 17, 3) := dk_180 0 17 (dk_at dksX3_at_0 10 rfl rfl)
theorem dX3_at_13 : decode cX3_at 13 = .ok (.iload_n 1, 1) := dk_27 (dk_at dksX3_at_0 13 rfl rfl)
theorem dX3_at_14 : decode cX3_at 14 = .ok (.iaload, 1) := dk_46 (dk_at dksX3_at_0 14 rfl rfl)
theorem dX3_at_15 : decode cX3_at 15 = .ok (.iadd, 1) := dk_96 (dk_at dksX3_at_0 15 rfl rfl)
theorem dX3_at_16 : decode cX3_at 16 = .ok (.ireturn, 1) := dk_172 (dk_at dksX3_at_0 16 rfl rfl)
theorem q94 : (Jvm.Cond.initialized "LoanNames$LeafRow") ∈ lw_all := lw_g (lw_at lw_m1 4 rfl) rfl
theorem q159 : (Jvm.Cond.instantiable "LoanNames$LeafRow" (3 : Nat)) ∈ lw_all := lw_g (lw_at lw_m1 69 rfl) rfl
theorem q161 : (Jvm.Cond.instanceMethod ({ cls := "LoanNames$LeafRow", name := "<init>", desc := "()V" } : Jvm.MethodName)) ∈ lw_all := lw_g (lw_at lw_m1 71 rfl) rfl
theorem q162 : (Jvm.Cond.code ({ cls := "LoanNames$LeafRow", name := "<init>", desc := "()V" } : Jvm.MethodName) prog_14_method_1_code (1 : Nat) (Option.none : Option Jvm.ClassFile.FieldType)) ∈ lw_all := lw_g (lw_at lw_m1 72 rfl) rfl
theorem q163 : (Jvm.Cond.methodLink "LoanNames$LeafRow" (3 : Nat) ({ cls := "java/lang/Object", name := "<init>", desc := "()V" } : Jvm.MethodName)) ∈ lw_all := lw_g (lw_at lw_m1 73 rfl) rfl
theorem q164 : (Jvm.Cond.classLink "LoanNames$LeafRow" (9 : Nat) "LoanNames$Leaf") ∈ lw_all := lw_g (lw_at lw_m1 74 rfl) rfl
theorem q166 : (Jvm.Cond.fieldLink "LoanNames$LeafRow" (11 : Nat) "LoanNames$LeafRow" "leaves" "[LLoanNames$Leaf;") ∈ lw_all := lw_g (lw_at lw_m1 76 rfl) rfl
theorem q171 : (Jvm.Cond.fieldLink "LoanNames$LeafRow" (17 : Nat) "LoanNames$LeafRow" "shifts" "[I") ∈ lw_all := lw_g (lw_at lw_m1 81 rfl) rfl
theorem q174 : (Jvm.Cond.fieldLink "LoanNames$LeafRow" (21 : Nat) "LoanNames$LeafRow" "many" "I") ∈ lw_all := lw_g (lw_at lw_m1 84 rfl) rfl
theorem q178 : (Jvm.Cond.laysFinal "LoanNames$LeafRow" "LoanNames$LeafRow" "leaves" "[LLoanNames$Leaf;") ∈ lw_all := lw_g (lw_at lw_m1 88 rfl) rfl
theorem q179 : (Jvm.Cond.soleField "LoanNames$LeafRow" "leaves") ∈ lw_all := lw_g (lw_at lw_m1 89 rfl) rfl
theorem q180 : (Jvm.Cond.laysFinal "LoanNames$LeafRow" "LoanNames$LeafRow" "shifts" "[I") ∈ lw_all := lw_g (lw_at lw_m1 90 rfl) rfl
theorem q181 : (Jvm.Cond.soleField "LoanNames$LeafRow" "shifts") ∈ lw_all := lw_g (lw_at lw_m1 91 rfl) rfl
theorem q182 : (Jvm.Cond.lays "LoanNames$LeafRow" "LoanNames$LeafRow" "many" "I") ∈ lw_all := lw_g (lw_at lw_m1 92 rfl) rfl
theorem q183 : (Jvm.Cond.soleField "LoanNames$LeafRow" "many") ∈ lw_all := lw_g (lw_at lw_m1 93 rfl) rfl
theorem q184 : (Jvm.Cond.superclass "LoanNames$LeafRow" "java/lang/Object") ∈ lw_all := lw_g (lw_at lw_m1 94 rfl) rfl
theorem q543 : (Jvm.Cond.fieldLink "LoanNames$LeafRow" (25 : Nat) "LoanNames$Leaf" "at" "I") ∈ lw_all := lw_g (lw_at lw_m2 213 rfl) rfl
theorem q719 : (Jvm.Cond.instanceMethod ({ cls := "LoanNames$LeafRow", name := "add", desc := "(LLoanNames$Leaf;I)V" } : Jvm.MethodName)) ∈ lw_all := lw_g (lw_at lw_m3 149 rfl) rfl
theorem q720 : (Jvm.Cond.selects "LoanNames$LeafRow" ({ cls := "LoanNames$LeafRow", name := "add", desc := "(LLoanNames$Leaf;I)V" } : Jvm.MethodName) ({ cls := "LoanNames$LeafRow", name := "add", desc := "(LLoanNames$Leaf;I)V" } : Jvm.MethodName)) ∈ lw_all := lw_g (lw_at lw_m3 150 rfl) rfl
theorem q721 : (Jvm.Cond.code ({ cls := "LoanNames$LeafRow", name := "add", desc := "(LLoanNames$Leaf;I)V" } : Jvm.MethodName) prog_14_method_2_code (3 : Nat) (Option.none : Option Jvm.ClassFile.FieldType)) ∈ lw_all := lw_g (lw_at lw_m3 151 rfl) rfl
theorem q914 : (Jvm.Cond.instanceMethod ({ cls := "LoanNames$LeafRow", name := "at", desc := "(I)I" } : Jvm.MethodName)) ∈ lw_all := lw_g (lw_at lw_m4 104 rfl) rfl
theorem q915 : (Jvm.Cond.selects "LoanNames$LeafRow" ({ cls := "LoanNames$LeafRow", name := "at", desc := "(I)I" } : Jvm.MethodName) ({ cls := "LoanNames$LeafRow", name := "at", desc := "(I)I" } : Jvm.MethodName)) ∈ lw_all := lw_g (lw_at lw_m4 105 rfl) rfl
theorem q916 : (Jvm.Cond.code ({ cls := "LoanNames$LeafRow", name := "at", desc := "(I)I" } : Jvm.MethodName) prog_14_method_3_code (2 : Nat) (Option.some Jvm.ClassFile.FieldType.int)) ∈ lw_all := lw_g (lw_at lw_m4 106 rfl) rfl
theorem in_X3 : ∀ w ∈ wsX30, w ∈ lw_all := lw_in wsX30 [178, 180, 182] (by decide +kernel) (by decide +kernel)
/-! LoanNames$Sink -/
set_option maxRecDepth 100000
def RX4 : String := "LoanNames$Sink"
def TX4 : u_T := fun k => match k with
  | 0 => ("LoanNames$Sink", "day", "[I", true)
  | 1 => ("LoanNames$Sink", "from", "[I", true)
  | 2 => ("LoanNames$Sink", "to", "[I", true)
  | 3 => ("LoanNames$Sink", "thing", "[I", true)
  | 4 => ("LoanNames$Sink", "much", "[J", true)
  | _ => ("LoanNames$Sink", "many", "I", false)
def tyX4 : Nat → FieldType := fun k => match k with
  | 0 => .array .int
  | 1 => .array .int
  | 2 => .array .int
  | 3 => .array .int
  | 4 => .array .long
  | _ => .int
abbrev wsX40 : List Cond := u_ws RX4 TX4 6
theorem nmX4 : ∀ a, a < 6 → ∀ b, b < 6 → a ≠ b → (TX4 a).2.1 ≠ (TX4 b).2.1 := by decide +kernel
theorem tyX4_ok : ∀ k, k < 6 → parseFieldDescriptor (TX4 k).2.2.1 = some (tyX4 k) := by decide +kernel
abbrev cX4_init : ByteArray := prog_21_method_1_code
def yX4_init : MethodName := ⟨RX4, "<init>", "()V"⟩
def dkwX4_init_2 : List UInt8 := [181, 0, 24, 177]
abbrev dktX4_init_2 : List UInt8 := dkwX4_init_2 ++ []
def dkwX4_init_1 : List UInt8 := [17, 0, 216, 188, 10, 181, 0, 18, 42, 17, 0, 216, 188, 10, 181, 0, 21, 42, 17, 0, 216, 188, 11]
abbrev dktX4_init_1 : List UInt8 := dkwX4_init_1 ++ dktX4_init_2
def dkwX4_init_0 : List UInt8 := [42, 183, 0, 3, 42, 17, 0, 216, 188, 10, 181, 0, 9, 42, 17, 0, 216, 188, 10, 181, 0, 15, 42]
abbrev dktX4_init_0 : List UInt8 := dkwX4_init_0 ++ dktX4_init_1
theorem dksX4_init_0 : cX4_init.data.toList.drop 0 = dktX4_init_0 := by decide +kernel
theorem dksX4_init_1 : cX4_init.data.toList.drop 23 = dktX4_init_1 := dk_seg dksX4_init_0 23 rfl rfl
theorem dksX4_init_2 : cX4_init.data.toList.drop 46 = dktX4_init_2 := dk_seg dksX4_init_1 23 rfl rfl
theorem dX4_init_0 : decode cX4_init 0 = .ok (.aload_n 0, 1) := dk_42 (dk_at dksX4_init_0 0 rfl rfl)
theorem dX4_init_1 : decode cX4_init 1 = .ok (.invokespecial 3, 3) := dk_183 0 3 (dk_at dksX4_init_0 1 rfl rfl)
theorem dX4_init_4 : decode cX4_init 4 = .ok (.aload_n 0, 1) := dk_42 (dk_at dksX4_init_0 4 rfl rfl)
theorem dX4_init_5 : decode cX4_init 5 = .ok (.sipush 216, 3) := dk_17 0 216 (dk_at dksX4_init_0 5 rfl rfl)
theorem dX4_init_8 : decode cX4_init 8 = .ok (.newarray .int, 2) := dk_188_10 (dk_at dksX4_init_0 8 rfl rfl)
theorem dX4_init_10 : decode cX4_init 10 = .ok (.putfield 9, 3) := dk_181 0 9 (dk_at dksX4_init_0 10 rfl rfl)
theorem dX4_init_13 : decode cX4_init 13 = .ok (.aload_n 0, 1) := dk_42 (dk_at dksX4_init_0 13 rfl rfl)
theorem dX4_init_14 : decode cX4_init 14 = .ok (.sipush 216, 3) := dk_17 0 216 (dk_at dksX4_init_0 14 rfl rfl)
theorem dX4_init_17 : decode cX4_init 17 = .ok (.newarray .int, 2) := dk_188_10 (dk_at dksX4_init_0 17 rfl rfl)
theorem dX4_init_19 : decode cX4_init 19 = .ok (.putfield 15, 3) := dk_181 0 15 (dk_at dksX4_init_0 19 rfl rfl)
theorem dX4_init_22 : decode cX4_init 22 = .ok (.aload_n 0, 1) := dk_42 (dk_at dksX4_init_0 22 rfl rfl)
theorem dX4_init_23 : decode cX4_init 23 = .ok (.sipush 216, 3) := dk_17 0 216 (dk_at dksX4_init_1 0 rfl rfl)
theorem dX4_init_26 : decode cX4_init 26 = .ok (.newarray .int, 2) := dk_188_10 (dk_at dksX4_init_1 3 rfl rfl)
theorem dX4_init_28 : decode cX4_init 28 = .ok (.putfield 18, 3) := dk_181 0 18 (dk_at dksX4_init_1 5 rfl rfl)
theorem dX4_init_31 : decode cX4_init 31 = .ok (.aload_n 0, 1) := dk_42 (dk_at dksX4_init_1 8 rfl rfl)
theorem dX4_init_32 : decode cX4_init 32 = .ok (.sipush 216, 3) := dk_17 0 216 (dk_at dksX4_init_1 9 rfl rfl)
theorem dX4_init_35 : decode cX4_init 35 = .ok (.newarray .int, 2) := dk_188_10 (dk_at dksX4_init_1 12 rfl rfl)
theorem dX4_init_37 : decode cX4_init 37 = .ok (.putfield 21, 3) := dk_181 0 21 (dk_at dksX4_init_1 14 rfl rfl)
theorem dX4_init_40 : decode cX4_init 40 = .ok (.aload_n 0, 1) := dk_42 (dk_at dksX4_init_1 17 rfl rfl)
theorem dX4_init_41 : decode cX4_init 41 = .ok (.sipush 216, 3) := dk_17 0 216 (dk_at dksX4_init_1 18 rfl rfl)
theorem dX4_init_44 : decode cX4_init 44 = .ok (.newarray .long, 2) := dk_188_11 (dk_at dksX4_init_1 21 rfl rfl)
theorem dX4_init_46 : decode cX4_init 46 = .ok (.putfield 24, 3) := dk_181 0 24 (dk_at dksX4_init_2 0 rfl rfl)
theorem dX4_init_49 : decode cX4_init 49 = .ok (.return_, 1) := dk_177 (dk_at dksX4_init_2 3 rfl rfl)
abbrev cX4_add : ByteArray := prog_21_method_2_code
def yX4_add : MethodName := ⟨RX4, "add", "(IIIIJ)V"⟩
def dkwX4_add_2 : List UInt8 := [180, 0, 28, 22, 5, 80, 42, 89, 180, 0, 28, 4, 96, 181, 0, 28, 177]
abbrev dktX4_add_2 : List UInt8 := dkwX4_add_2 ++ []
def dkwX4_add_1 : List UInt8 := [42, 180, 0, 28, 29, 79, 42, 180, 0, 21, 42, 180, 0, 28, 21, 4, 79, 42, 180, 0, 24, 42]
abbrev dktX4_add_1 : List UInt8 := dkwX4_add_1 ++ dktX4_add_2
def dkwX4_add_0 : List UInt8 := [42, 180, 0, 9, 42, 180, 0, 28, 27, 79, 42, 180, 0, 15, 42, 180, 0, 28, 28, 79, 42, 180, 0, 18]
abbrev dktX4_add_0 : List UInt8 := dkwX4_add_0 ++ dktX4_add_1
theorem dksX4_add_0 : cX4_add.data.toList.drop 0 = dktX4_add_0 := by decide +kernel
theorem dksX4_add_1 : cX4_add.data.toList.drop 24 = dktX4_add_1 := dk_seg dksX4_add_0 24 rfl rfl
theorem dksX4_add_2 : cX4_add.data.toList.drop 46 = dktX4_add_2 := dk_seg dksX4_add_1 22 rfl rfl
theorem dX4_add_0 : decode cX4_add 0 = .ok (.aload_n 0, 1) := dk_42 (dk_at dksX4_add_0 0 rfl rfl)
theorem dX4_add_1 : decode cX4_add 1 = .ok (.getfield 9, 3) := dk_180 0 9 (dk_at dksX4_add_0 1 rfl rfl)
theorem dX4_add_4 : decode cX4_add 4 = .ok (.aload_n 0, 1) := dk_42 (dk_at dksX4_add_0 4 rfl rfl)
theorem dX4_add_5 : decode cX4_add 5 = .ok (.getfield 28, 3) := dk_180 0 28 (dk_at dksX4_add_0 5 rfl rfl)
theorem dX4_add_8 : decode cX4_add 8 = .ok (.iload_n 1, 1) := dk_27 (dk_at dksX4_add_0 8 rfl rfl)
theorem dX4_add_9 : decode cX4_add 9 = .ok (.iastore, 1) := dk_79 (dk_at dksX4_add_0 9 rfl rfl)
theorem dX4_add_10 : decode cX4_add 10 = .ok (.aload_n 0, 1) := dk_42 (dk_at dksX4_add_0 10 rfl rfl)
theorem dX4_add_11 : decode cX4_add 11 = .ok (.getfield 15, 3) := dk_180 0 15 (dk_at dksX4_add_0 11 rfl rfl)
theorem dX4_add_14 : decode cX4_add 14 = .ok (.aload_n 0, 1) := dk_42 (dk_at dksX4_add_0 14 rfl rfl)
theorem dX4_add_15 : decode cX4_add 15 = .ok (.getfield 28, 3) := dk_180 0 28 (dk_at dksX4_add_0 15 rfl rfl)
theorem dX4_add_18 : decode cX4_add 18 = .ok (.iload_n 2, 1) := dk_28 (dk_at dksX4_add_0 18 rfl rfl)
theorem dX4_add_19 : decode cX4_add 19 = .ok (.iastore, 1) := dk_79 (dk_at dksX4_add_0 19 rfl rfl)
theorem dX4_add_20 : decode cX4_add 20 = .ok (.aload_n 0, 1) := dk_42 (dk_at dksX4_add_0 20 rfl rfl)
theorem dX4_add_21 : decode cX4_add 21 = .ok (.getfield 18, 3) := dk_180 0 18 (dk_at dksX4_add_0 21 rfl rfl)
theorem dX4_add_24 : decode cX4_add 24 = .ok (.aload_n 0, 1) := dk_42 (dk_at dksX4_add_1 0 rfl rfl)
theorem dX4_add_25 : decode cX4_add 25 = .ok (.getfield 28, 3) := dk_180 0 28 (dk_at dksX4_add_1 1 rfl rfl)
theorem dX4_add_28 : decode cX4_add 28 = .ok (.iload_n 3, 1) := dk_29 (dk_at dksX4_add_1 4 rfl rfl)
theorem dX4_add_29 : decode cX4_add 29 = .ok (.iastore, 1) := dk_79 (dk_at dksX4_add_1 5 rfl rfl)
theorem dX4_add_30 : decode cX4_add 30 = .ok (.aload_n 0, 1) := dk_42 (dk_at dksX4_add_1 6 rfl rfl)
theorem dX4_add_31 : decode cX4_add 31 = .ok (.getfield 21, 3) := dk_180 0 21 (dk_at dksX4_add_1 7 rfl rfl)
theorem dX4_add_34 : decode cX4_add 34 = .ok (.aload_n 0, 1) := dk_42 (dk_at dksX4_add_1 10 rfl rfl)
theorem dX4_add_35 : decode cX4_add 35 = .ok (.getfield 28, 3) := dk_180 0 28 (dk_at dksX4_add_1 11 rfl rfl)
theorem dX4_add_38 : decode cX4_add 38 = .ok (.iload 4, 2) := dk_21 4 (dk_at dksX4_add_1 14 rfl rfl)
theorem dX4_add_40 : decode cX4_add 40 = .ok (.iastore, 1) := dk_79 (dk_at dksX4_add_1 16 rfl rfl)
theorem dX4_add_41 : decode cX4_add 41 = .ok (.aload_n 0, 1) := dk_42 (dk_at dksX4_add_1 17 rfl rfl)
theorem dX4_add_42 : decode cX4_add 42 = .ok (.getfield 24, 3) := dk_180 0 24 (dk_at dksX4_add_1 18 rfl rfl)
theorem dX4_add_45 : decode cX4_add 45 = .ok (.aload_n 0, 1) := dk_42 (dk_at dksX4_add_1 21 rfl rfl)
theorem dX4_add_46 : decode cX4_add 46 = .ok (.getfield 28, 3) := dk_180 0 28 (dk_at dksX4_add_2 0 rfl rfl)
theorem dX4_add_49 : decode cX4_add 49 = .ok (.lload 5, 2) := dk_22 5 (dk_at dksX4_add_2 3 rfl rfl)
theorem dX4_add_51 : decode cX4_add 51 = .ok (.lastore, 1) := dk_80 (dk_at dksX4_add_2 5 rfl rfl)
theorem dX4_add_52 : decode cX4_add 52 = .ok (.aload_n 0, 1) := dk_42 (dk_at dksX4_add_2 6 rfl rfl)
theorem dX4_add_53 : decode cX4_add 53 = .ok (.dup, 1) := dk_89 (dk_at dksX4_add_2 7 rfl rfl)
theorem dX4_add_54 : decode cX4_add 54 = .ok (.getfield 28, 3) := dk_180 0 28 (dk_at dksX4_add_2 8 rfl rfl)
theorem dX4_add_57 : decode cX4_add 57 = .ok (.iconst 1, 1) := dk_4 (dk_at dksX4_add_2 11 rfl rfl)
theorem dX4_add_58 : decode cX4_add 58 = .ok (.iadd, 1) := dk_96 (dk_at dksX4_add_2 12 rfl rfl)
theorem dX4_add_59 : decode cX4_add 59 = .ok (.putfield 28, 3) := dk_181 0 28 (dk_at dksX4_add_2 13 rfl rfl)
theorem dX4_add_62 : decode cX4_add 62 = .ok (.return_, 1) := dk_177 (dk_at dksX4_add_2 16 rfl rfl)
theorem q95 : (Jvm.Cond.initialized "LoanNames$Sink") ∈ lw_all := lw_g (lw_at lw_m1 5 rfl) rfl
theorem q186 : (Jvm.Cond.instantiable "LoanNames$Sink" (6 : Nat)) ∈ lw_all := lw_g (lw_at lw_m1 96 rfl) rfl
theorem q188 : (Jvm.Cond.instanceMethod ({ cls := "LoanNames$Sink", name := "<init>", desc := "()V" } : Jvm.MethodName)) ∈ lw_all := lw_g (lw_at lw_m1 98 rfl) rfl
theorem q189 : (Jvm.Cond.code ({ cls := "LoanNames$Sink", name := "<init>", desc := "()V" } : Jvm.MethodName) prog_21_method_1_code (1 : Nat) (Option.none : Option Jvm.ClassFile.FieldType)) ∈ lw_all := lw_g (lw_at lw_m1 99 rfl) rfl
theorem q190 : (Jvm.Cond.methodLink "LoanNames$Sink" (3 : Nat) ({ cls := "java/lang/Object", name := "<init>", desc := "()V" } : Jvm.MethodName)) ∈ lw_all := lw_g (lw_at lw_m1 100 rfl) rfl
theorem q191 : (Jvm.Cond.fieldLink "LoanNames$Sink" (9 : Nat) "LoanNames$Sink" "day" "[I") ∈ lw_all := lw_g (lw_at lw_m1 101 rfl) rfl
theorem q194 : (Jvm.Cond.fieldLink "LoanNames$Sink" (15 : Nat) "LoanNames$Sink" "from" "[I") ∈ lw_all := lw_g (lw_at lw_m1 104 rfl) rfl
theorem q197 : (Jvm.Cond.fieldLink "LoanNames$Sink" (18 : Nat) "LoanNames$Sink" "to" "[I") ∈ lw_all := lw_g (lw_at lw_m1 107 rfl) rfl
theorem q200 : (Jvm.Cond.fieldLink "LoanNames$Sink" (21 : Nat) "LoanNames$Sink" "thing" "[I") ∈ lw_all := lw_g (lw_at lw_m1 110 rfl) rfl
theorem q203 : (Jvm.Cond.fieldLink "LoanNames$Sink" (24 : Nat) "LoanNames$Sink" "much" "[J") ∈ lw_all := lw_g (lw_at lw_m1 113 rfl) rfl
theorem q206 : (Jvm.Cond.fieldLink "LoanNames$Sink" (28 : Nat) "LoanNames$Sink" "many" "I") ∈ lw_all := lw_g (lw_at lw_m1 116 rfl) rfl
theorem q209 : (Jvm.Cond.laysFinal "LoanNames$Sink" "LoanNames$Sink" "day" "[I") ∈ lw_all := lw_g (lw_at lw_m1 119 rfl) rfl
theorem q210 : (Jvm.Cond.soleField "LoanNames$Sink" "day") ∈ lw_all := lw_g (lw_at lw_m1 120 rfl) rfl
theorem q211 : (Jvm.Cond.laysFinal "LoanNames$Sink" "LoanNames$Sink" "from" "[I") ∈ lw_all := lw_g (lw_at lw_m1 121 rfl) rfl
theorem q212 : (Jvm.Cond.soleField "LoanNames$Sink" "from") ∈ lw_all := lw_g (lw_at lw_m1 122 rfl) rfl
theorem q213 : (Jvm.Cond.laysFinal "LoanNames$Sink" "LoanNames$Sink" "to" "[I") ∈ lw_all := lw_g (lw_at lw_m1 123 rfl) rfl
theorem q214 : (Jvm.Cond.soleField "LoanNames$Sink" "to") ∈ lw_all := lw_g (lw_at lw_m1 124 rfl) rfl
theorem q215 : (Jvm.Cond.laysFinal "LoanNames$Sink" "LoanNames$Sink" "thing" "[I") ∈ lw_all := lw_g (lw_at lw_m1 125 rfl) rfl
theorem q216 : (Jvm.Cond.soleField "LoanNames$Sink" "thing") ∈ lw_all := lw_g (lw_at lw_m1 126 rfl) rfl
theorem q217 : (Jvm.Cond.laysFinal "LoanNames$Sink" "LoanNames$Sink" "much" "[J") ∈ lw_all := lw_g (lw_at lw_m1 127 rfl) rfl
theorem q218 : (Jvm.Cond.soleField "LoanNames$Sink" "much") ∈ lw_all := lw_g (lw_at lw_m1 128 rfl) rfl
theorem q219 : (Jvm.Cond.lays "LoanNames$Sink" "LoanNames$Sink" "many" "I") ∈ lw_all := lw_g (lw_at lw_m1 129 rfl) rfl
theorem q220 : (Jvm.Cond.soleField "LoanNames$Sink" "many") ∈ lw_all := lw_g (lw_at lw_m1 130 rfl) rfl
theorem q221 : (Jvm.Cond.superclass "LoanNames$Sink" "java/lang/Object") ∈ lw_all := lw_g (lw_at lw_m1 131 rfl) rfl
theorem q1123 : (Jvm.Cond.instanceMethod ({ cls := "LoanNames$Sink", name := "add", desc := "(IIIIJ)V" } : Jvm.MethodName)) ∈ lw_all := lw_g (lw_at lw_m5 73 rfl) rfl
theorem q1124 : (Jvm.Cond.selects "LoanNames$Sink" ({ cls := "LoanNames$Sink", name := "add", desc := "(IIIIJ)V" } : Jvm.MethodName) ({ cls := "LoanNames$Sink", name := "add", desc := "(IIIIJ)V" } : Jvm.MethodName)) ∈ lw_all := lw_g (lw_at lw_m5 74 rfl) rfl
theorem q1125 : (Jvm.Cond.code ({ cls := "LoanNames$Sink", name := "add", desc := "(IIIIJ)V" } : Jvm.MethodName) prog_21_method_2_code (7 : Nat) (Option.none : Option Jvm.ClassFile.FieldType)) ∈ lw_all := lw_g (lw_at lw_m5 75 rfl) rfl
theorem in_X4 : ∀ w ∈ wsX40, w ∈ lw_all := lw_in wsX40 [209, 211, 213, 215, 217, 219] (by decide +kernel) (by decide +kernel)
/-! LoanNames$Reader -/
set_option maxRecDepth 100000
def RX6 : String := "LoanNames$Reader"
abbrev cX6_init : ByteArray := prog_18_method_1_code
def yX6_init : MethodName := ⟨RX6, "<init>", "([BI)V"⟩
def dkwX6_init_0 : List UInt8 := [42, 183, 0, 3, 42, 43, 181, 0, 9, 42, 28, 181, 0, 15, 42, 182, 0, 19, 177]
abbrev dktX6_init_0 : List UInt8 := dkwX6_init_0 ++ []
theorem dksX6_init_0 : cX6_init.data.toList.drop 0 = dktX6_init_0 := by decide +kernel
theorem dX6_init_0 : decode cX6_init 0 = .ok (.aload_n 0, 1) := dk_42 (dk_at dksX6_init_0 0 rfl rfl)
theorem dX6_init_1 : decode cX6_init 1 = .ok (.invokespecial 3, 3) := dk_183 0 3 (dk_at dksX6_init_0 1 rfl rfl)
theorem dX6_init_4 : decode cX6_init 4 = .ok (.aload_n 0, 1) := dk_42 (dk_at dksX6_init_0 4 rfl rfl)
theorem dX6_init_5 : decode cX6_init 5 = .ok (.aload_n 1, 1) := dk_43 (dk_at dksX6_init_0 5 rfl rfl)
theorem dX6_init_6 : decode cX6_init 6 = .ok (.putfield 9, 3) := dk_181 0 9 (dk_at dksX6_init_0 6 rfl rfl)
theorem dX6_init_9 : decode cX6_init 9 = .ok (.aload_n 0, 1) := dk_42 (dk_at dksX6_init_0 9 rfl rfl)
theorem dX6_init_10 : decode cX6_init 10 = .ok (.iload_n 2, 1) := dk_28 (dk_at dksX6_init_0 10 rfl rfl)
theorem dX6_init_11 : decode cX6_init 11 = .ok (.putfield 15, 3) := dk_181 0 15 (dk_at dksX6_init_0 11 rfl rfl)
theorem dX6_init_14 : decode cX6_init 14 = .ok (.aload_n 0, 1) := dk_42 (dk_at dksX6_init_0 14 rfl rfl)
theorem dX6_init_15 : decode cX6_init 15 = .ok (.invokevirtual 19, 3) := dk_182 0 19 (dk_at dksX6_init_0 15 rfl rfl)
theorem dX6_init_18 : decode cX6_init 18 = .ok (.return_, 1) := dk_177 (dk_at dksX6_init_0 18 rfl rfl)
abbrev cX6_look : ByteArray := prog_18_method_4_code
def yX6_look : MethodName := ⟨RX6, "look", "()V"⟩
def dkwX6_look_13 : List UInt8 := [180, 0, 9, 42, 180, 0, 22, 51, 133, 181, 0, 28, 42, 89, 180, 0, 25, 4, 96, 181, 0, 25, 177]
abbrev dktX6_look_13 : List UInt8 := dkwX6_look_13 ++ []
def dkwX6_look_12 : List UInt8 := [100, 7, 164, 0, 42, 42, 20, 0, 39, 181, 0, 28, 167, 0, 32, 42, 6, 181, 0, 32, 42, 42]
abbrev dktX6_look_12 : List UInt8 := dkwX6_look_12 ++ dktX6_look_13
def dkwX6_look_11 : List UInt8 := [181, 0, 28, 42, 89, 180, 0, 25, 4, 96, 181, 0, 25, 167, 255, 195, 42, 180, 0, 25, 42, 180, 0, 22]
abbrev dktX6_look_11 : List UInt8 := dkwX6_look_11 ++ dktX6_look_12
def dkwX6_look_10 : List UInt8 := [20, 0, 44, 42, 180, 0, 28, 105, 42, 180, 0, 9, 42, 180, 0, 25, 51, 133, 97, 20, 0, 46, 101]
abbrev dktX6_look_10 : List UInt8 := dkwX6_look_10 ++ dktX6_look_11
def dkwX6_look_9 : List UInt8 := [180, 0, 25, 182, 0, 41, 153, 0, 56, 42, 180, 0, 25, 42, 180, 0, 22, 100, 7, 162, 0, 30, 42]
abbrev dktX6_look_9 : List UInt8 := dkwX6_look_9 ++ dktX6_look_10
def dkwX6_look_8 : List UInt8 := [181, 0, 28, 167, 0, 135, 42, 42, 180, 0, 22, 182, 0, 41, 153, 0, 95, 42, 5, 181, 0, 32, 42, 42]
abbrev dktX6_look_8 : List UInt8 := dkwX6_look_8 ++ dktX6_look_9
def dkwX6_look_7 : List UInt8 := [181, 0, 25, 167, 255, 193, 42, 180, 0, 25, 42, 180, 0, 22, 100, 16, 7, 164, 0, 145, 42, 20, 0, 39]
abbrev dktX6_look_7 : List UInt8 := dkwX6_look_7 ++ dktX6_look_8
def dkwX6_look_6 : List UInt8 := [180, 0, 25, 51, 133, 129, 167, 0, 6, 20, 0, 39, 181, 0, 28, 42, 89, 180, 0, 25, 4, 96]
abbrev dktX6_look_6 : List UInt8 := dkwX6_look_6 ++ dktX6_look_7
def dkwX6_look_5 : List UInt8 := [42, 180, 0, 22, 100, 16, 7, 162, 0, 24, 42, 180, 0, 28, 16, 8, 121, 42, 180, 0, 9, 42]
abbrev dktX6_look_5 : List UInt8 := dkwX6_look_5 ++ dktX6_look_6
def dkwX6_look_4 : List UInt8 := [153, 0, 98, 42, 4, 181, 0, 32, 42, 42, 180, 0, 25, 182, 0, 35, 153, 0, 58, 42, 42, 180, 0, 25]
abbrev dktX6_look_4 : List UInt8 := dkwX6_look_4 ++ dktX6_look_5
def dkwX6_look_3 : List UInt8 := [180, 0, 15, 160, 0, 11, 42, 3, 181, 0, 32, 167, 0, 241, 42, 42, 180, 0, 22, 182, 0, 35]
abbrev dktX6_look_3 : List UInt8 := dkwX6_look_3 ++ dktX6_look_4
def dkwX6_look_2 : List UInt8 := [181, 0, 22, 167, 255, 207, 42, 42, 180, 0, 22, 181, 0, 25, 42, 9, 181, 0, 28, 42, 180, 0, 22, 42]
abbrev dktX6_look_2 : List UInt8 := dkwX6_look_2 ++ dktX6_look_3
def dkwX6_look_1 : List UInt8 := [159, 0, 17, 42, 180, 0, 9, 42, 180, 0, 22, 51, 16, 10, 160, 0, 16, 42, 89, 180, 0, 22, 4, 96]
abbrev dktX6_look_1 : List UInt8 := dkwX6_look_1 ++ dktX6_look_2
def dkwX6_look_0 : List UInt8 := [42, 180, 0, 22, 42, 180, 0, 15, 162, 0, 44, 42, 180, 0, 9, 42, 180, 0, 22, 51, 16, 32]
abbrev dktX6_look_0 : List UInt8 := dkwX6_look_0 ++ dktX6_look_1
theorem dksX6_look_0 : cX6_look.data.toList.drop 0 = dktX6_look_0 := by decide +kernel
theorem dksX6_look_1 : cX6_look.data.toList.drop 22 = dktX6_look_1 := dk_seg dksX6_look_0 22 rfl rfl
theorem dksX6_look_2 : cX6_look.data.toList.drop 46 = dktX6_look_2 := dk_seg dksX6_look_1 24 rfl rfl
theorem dksX6_look_3 : cX6_look.data.toList.drop 70 = dktX6_look_3 := dk_seg dksX6_look_2 24 rfl rfl
theorem dksX6_look_4 : cX6_look.data.toList.drop 92 = dktX6_look_4 := dk_seg dksX6_look_3 22 rfl rfl
theorem dksX6_look_5 : cX6_look.data.toList.drop 116 = dktX6_look_5 := dk_seg dksX6_look_4 24 rfl rfl
theorem dksX6_look_6 : cX6_look.data.toList.drop 138 = dktX6_look_6 := dk_seg dksX6_look_5 22 rfl rfl
theorem dksX6_look_7 : cX6_look.data.toList.drop 160 = dktX6_look_7 := dk_seg dksX6_look_6 22 rfl rfl
theorem dksX6_look_8 : cX6_look.data.toList.drop 184 = dktX6_look_8 := dk_seg dksX6_look_7 24 rfl rfl
theorem dksX6_look_9 : cX6_look.data.toList.drop 208 = dktX6_look_9 := dk_seg dksX6_look_8 24 rfl rfl
theorem dksX6_look_10 : cX6_look.data.toList.drop 231 = dktX6_look_10 := dk_seg dksX6_look_9 23 rfl rfl
theorem dksX6_look_11 : cX6_look.data.toList.drop 254 = dktX6_look_11 := dk_seg dksX6_look_10 23 rfl rfl
theorem dksX6_look_12 : cX6_look.data.toList.drop 278 = dktX6_look_12 := dk_seg dksX6_look_11 24 rfl rfl
theorem dksX6_look_13 : cX6_look.data.toList.drop 300 = dktX6_look_13 := dk_seg dksX6_look_12 22 rfl rfl
theorem dX6_look_0 : decode cX6_look 0 = .ok (.aload_n 0, 1) := dk_42 (dk_at dksX6_look_0 0 rfl rfl)
theorem dX6_look_1 : decode cX6_look 1 = .ok (.getfield 22, 3) := dk_180 0 22 (dk_at dksX6_look_0 1 rfl rfl)
theorem dX6_look_4 : decode cX6_look 4 = .ok (.aload_n 0, 1) := dk_42 (dk_at dksX6_look_0 4 rfl rfl)
theorem dX6_look_5 : decode cX6_look 5 = .ok (.getfield 15, 3) := dk_180 0 15 (dk_at dksX6_look_0 5 rfl rfl)
theorem dX6_look_8 : decode cX6_look 8 = .ok (.if_icmp .ge 44, 3) := dk_162 0 44 (dk_at dksX6_look_0 8 rfl rfl)
theorem dX6_look_11 : decode cX6_look 11 = .ok (.aload_n 0, 1) := dk_42 (dk_at dksX6_look_0 11 rfl rfl)
theorem dX6_look_12 : decode cX6_look 12 = .ok (.getfield 9, 3) := dk_180 0 9 (dk_at dksX6_look_0 12 rfl rfl)
theorem dX6_look_15 : decode cX6_look 15 = .ok (.aload_n 0, 1) := dk_42 (dk_at dksX6_look_0 15 rfl rfl)
theorem dX6_look_16 : decode cX6_look 16 = .ok (.getfield 22, 3) := dk_180 0 22 (dk_at dksX6_look_0 16 rfl rfl)
theorem dX6_look_19 : decode cX6_look 19 = .ok (.baload, 1) := dk_51 (dk_at dksX6_look_0 19 rfl rfl)
theorem dX6_look_20 : decode cX6_look 20 = .ok (.bipush 32, 2) := dk_16 32 (dk_at dksX6_look_0 20 rfl rfl)
theorem dX6_look_22 : decode cX6_look 22 = .ok (.if_icmp .eq 17, 3) := dk_159 0 17 (dk_at dksX6_look_1 0 rfl rfl)
theorem dX6_look_25 : decode cX6_look 25 = .ok (.aload_n 0, 1) := dk_42 (dk_at dksX6_look_1 3 rfl rfl)
theorem dX6_look_26 : decode cX6_look 26 = .ok (.getfield 9, 3) := dk_180 0 9 (dk_at dksX6_look_1 4 rfl rfl)
theorem dX6_look_29 : decode cX6_look 29 = .ok (.aload_n 0, 1) := dk_42 (dk_at dksX6_look_1 7 rfl rfl)
theorem dX6_look_30 : decode cX6_look 30 = .ok (.getfield 22, 3) := dk_180 0 22 (dk_at dksX6_look_1 8 rfl rfl)
theorem dX6_look_33 : decode cX6_look 33 = .ok (.baload, 1) := dk_51 (dk_at dksX6_look_1 11 rfl rfl)
theorem dX6_look_34 : decode cX6_look 34 = .ok (.bipush 10, 2) := dk_16 10 (dk_at dksX6_look_1 12 rfl rfl)
theorem dX6_look_36 : decode cX6_look 36 = .ok (.if_icmp .ne 16, 3) := dk_160 0 16 (dk_at dksX6_look_1 14 rfl rfl)
theorem dX6_look_39 : decode cX6_look 39 = .ok (.aload_n 0, 1) := dk_42 (dk_at dksX6_look_1 17 rfl rfl)
theorem dX6_look_40 : decode cX6_look 40 = .ok (.dup, 1) := dk_89 (dk_at dksX6_look_1 18 rfl rfl)
theorem dX6_look_41 : decode cX6_look 41 = .ok (.getfield 22, 3) := dk_180 0 22 (dk_at dksX6_look_1 19 rfl rfl)
theorem dX6_look_44 : decode cX6_look 44 = .ok (.iconst 1, 1) := dk_4 (dk_at dksX6_look_1 22 rfl rfl)
theorem dX6_look_45 : decode cX6_look 45 = .ok (.iadd, 1) := dk_96 (dk_at dksX6_look_1 23 rfl rfl)
theorem dX6_look_46 : decode cX6_look 46 = .ok (.putfield 22, 3) := dk_181 0 22 (dk_at dksX6_look_2 0 rfl rfl)
theorem dX6_look_49 : decode cX6_look 49 = .ok (.goto (-49), 3) := dk_167 255 207 (dk_at dksX6_look_2 3 rfl rfl)
theorem dX6_look_52 : decode cX6_look 52 = .ok (.aload_n 0, 1) := dk_42 (dk_at dksX6_look_2 6 rfl rfl)
theorem dX6_look_53 : decode cX6_look 53 = .ok (.aload_n 0, 1) := dk_42 (dk_at dksX6_look_2 7 rfl rfl)
theorem dX6_look_54 : decode cX6_look 54 = .ok (.getfield 22, 3) := dk_180 0 22 (dk_at dksX6_look_2 8 rfl rfl)
theorem dX6_look_57 : decode cX6_look 57 = .ok (.putfield 25, 3) := dk_181 0 25 (dk_at dksX6_look_2 11 rfl rfl)
theorem dX6_look_60 : decode cX6_look 60 = .ok (.aload_n 0, 1) := dk_42 (dk_at dksX6_look_2 14 rfl rfl)
theorem dX6_look_61 : decode cX6_look 61 = .ok (.lconst 0, 1) := dk_9 (dk_at dksX6_look_2 15 rfl rfl)
theorem dX6_look_62 : decode cX6_look 62 = .ok (.putfield 28, 3) := dk_181 0 28 (dk_at dksX6_look_2 16 rfl rfl)
theorem dX6_look_65 : decode cX6_look 65 = .ok (.aload_n 0, 1) := dk_42 (dk_at dksX6_look_2 19 rfl rfl)
theorem dX6_look_66 : decode cX6_look 66 = .ok (.getfield 22, 3) := dk_180 0 22 (dk_at dksX6_look_2 20 rfl rfl)
theorem dX6_look_69 : decode cX6_look 69 = .ok (.aload_n 0, 1) := dk_42 (dk_at dksX6_look_2 23 rfl rfl)
theorem dX6_look_70 : decode cX6_look 70 = .ok (.getfield 15, 3) := dk_180 0 15 (dk_at dksX6_look_3 0 rfl rfl)
theorem dX6_look_73 : decode cX6_look 73 = .ok (.if_icmp .ne 11, 3) := dk_160 0 11 (dk_at dksX6_look_3 3 rfl rfl)
theorem dX6_look_76 : decode cX6_look 76 = .ok (.aload_n 0, 1) := dk_42 (dk_at dksX6_look_3 6 rfl rfl)
theorem dX6_look_77 : decode cX6_look 77 = .ok (.iconst 0, 1) := dk_3 (dk_at dksX6_look_3 7 rfl rfl)
theorem dX6_look_78 : decode cX6_look 78 = .ok (.putfield 32, 3) := dk_181 0 32 (dk_at dksX6_look_3 8 rfl rfl)
theorem dX6_look_81 : decode cX6_look 81 = .ok (.goto 241, 3) := dk_167 0 241 (dk_at dksX6_look_3 11 rfl rfl)
theorem dX6_look_84 : decode cX6_look 84 = .ok (.aload_n 0, 1) := dk_42 (dk_at dksX6_look_3 14 rfl rfl)
theorem dX6_look_85 : decode cX6_look 85 = .ok (.aload_n 0, 1) := dk_42 (dk_at dksX6_look_3 15 rfl rfl)
theorem dX6_look_86 : decode cX6_look 86 = .ok (.getfield 22, 3) := dk_180 0 22 (dk_at dksX6_look_3 16 rfl rfl)
theorem dX6_look_89 : decode cX6_look 89 = .ok (.invokevirtual 35, 3) := dk_182 0 35 (dk_at dksX6_look_3 19 rfl rfl)
theorem dX6_look_92 : decode cX6_look 92 = .ok (.ifCond .eq 98, 3) := dk_153 0 98 (dk_at dksX6_look_4 0 rfl rfl)
theorem dX6_look_95 : decode cX6_look 95 = .ok (.aload_n 0, 1) := dk_42 (dk_at dksX6_look_4 3 rfl rfl)
theorem dX6_look_96 : decode cX6_look 96 = .ok (.iconst 1, 1) := dk_4 (dk_at dksX6_look_4 4 rfl rfl)
theorem dX6_look_97 : decode cX6_look 97 = .ok (.putfield 32, 3) := dk_181 0 32 (dk_at dksX6_look_4 5 rfl rfl)
theorem dX6_look_100 : decode cX6_look 100 = .ok (.aload_n 0, 1) := dk_42 (dk_at dksX6_look_4 8 rfl rfl)
theorem dX6_look_101 : decode cX6_look 101 = .ok (.aload_n 0, 1) := dk_42 (dk_at dksX6_look_4 9 rfl rfl)
theorem dX6_look_102 : decode cX6_look 102 = .ok (.getfield 25, 3) := dk_180 0 25 (dk_at dksX6_look_4 10 rfl rfl)
theorem dX6_look_105 : decode cX6_look 105 = .ok (.invokevirtual 35, 3) := dk_182 0 35 (dk_at dksX6_look_4 13 rfl rfl)
theorem dX6_look_108 : decode cX6_look 108 = .ok (.ifCond .eq 58, 3) := dk_153 0 58 (dk_at dksX6_look_4 16 rfl rfl)
theorem dX6_look_111 : decode cX6_look 111 = .ok (.aload_n 0, 1) := dk_42 (dk_at dksX6_look_4 19 rfl rfl)
theorem dX6_look_112 : decode cX6_look 112 = .ok (.aload_n 0, 1) := dk_42 (dk_at dksX6_look_4 20 rfl rfl)
theorem dX6_look_113 : decode cX6_look 113 = .ok (.getfield 25, 3) := dk_180 0 25 (dk_at dksX6_look_4 21 rfl rfl)
theorem dX6_look_116 : decode cX6_look 116 = .ok (.aload_n 0, 1) := dk_42 (dk_at dksX6_look_5 0 rfl rfl)
theorem dX6_look_117 : decode cX6_look 117 = .ok (.getfield 22, 3) := dk_180 0 22 (dk_at dksX6_look_5 1 rfl rfl)
theorem dX6_look_120 : decode cX6_look 120 = .ok (.isub, 1) := dk_100 (dk_at dksX6_look_5 4 rfl rfl)
theorem dX6_look_121 : decode cX6_look 121 = .ok (.bipush 7, 2) := dk_16 7 (dk_at dksX6_look_5 5 rfl rfl)
theorem dX6_look_123 : decode cX6_look 123 = .ok (.if_icmp .ge 24, 3) := dk_162 0 24 (dk_at dksX6_look_5 7 rfl rfl)
theorem dX6_look_126 : decode cX6_look 126 = .ok (.aload_n 0, 1) := dk_42 (dk_at dksX6_look_5 10 rfl rfl)
theorem dX6_look_127 : decode cX6_look 127 = .ok (.getfield 28, 3) := dk_180 0 28 (dk_at dksX6_look_5 11 rfl rfl)
theorem dX6_look_130 : decode cX6_look 130 = .ok (.bipush 8, 2) := dk_16 8 (dk_at dksX6_look_5 14 rfl rfl)
theorem dX6_look_132 : decode cX6_look 132 = .ok (.lshl, 1) := dk_121 (dk_at dksX6_look_5 16 rfl rfl)
theorem dX6_look_133 : decode cX6_look 133 = .ok (.aload_n 0, 1) := dk_42 (dk_at dksX6_look_5 17 rfl rfl)
theorem dX6_look_134 : decode cX6_look 134 = .ok (.getfield 9, 3) := dk_180 0 9 (dk_at dksX6_look_5 18 rfl rfl)
theorem dX6_look_137 : decode cX6_look 137 = .ok (.aload_n 0, 1) := dk_42 (dk_at dksX6_look_5 21 rfl rfl)
theorem dX6_look_138 : decode cX6_look 138 = .ok (.getfield 25, 3) := dk_180 0 25 (dk_at dksX6_look_6 0 rfl rfl)
theorem dX6_look_141 : decode cX6_look 141 = .ok (.baload, 1) := dk_51 (dk_at dksX6_look_6 3 rfl rfl)
theorem dX6_look_142 : decode cX6_look 142 = .ok (.i2l, 1) := dk_133 (dk_at dksX6_look_6 4 rfl rfl)
theorem dX6_look_143 : decode cX6_look 143 = .ok (.lor, 1) := dk_129 (dk_at dksX6_look_6 5 rfl rfl)
theorem dX6_look_144 : decode cX6_look 144 = .ok (.goto 6, 3) := dk_167 0 6 (dk_at dksX6_look_6 6 rfl rfl)
theorem dX6_look_147 : decode cX6_look 147 = .ok (.ldc2_w 39, 3) := dk_20 0 39 (dk_at dksX6_look_6 9 rfl rfl)
theorem dX6_look_150 : decode cX6_look 150 = .ok (.putfield 28, 3) := dk_181 0 28 (dk_at dksX6_look_6 12 rfl rfl)
theorem dX6_look_153 : decode cX6_look 153 = .ok (.aload_n 0, 1) := dk_42 (dk_at dksX6_look_6 15 rfl rfl)
theorem dX6_look_154 : decode cX6_look 154 = .ok (.dup, 1) := dk_89 (dk_at dksX6_look_6 16 rfl rfl)
theorem dX6_look_155 : decode cX6_look 155 = .ok (.getfield 25, 3) := dk_180 0 25 (dk_at dksX6_look_6 17 rfl rfl)
theorem dX6_look_158 : decode cX6_look 158 = .ok (.iconst 1, 1) := dk_4 (dk_at dksX6_look_6 20 rfl rfl)
theorem dX6_look_159 : decode cX6_look 159 = .ok (.iadd, 1) := dk_96 (dk_at dksX6_look_6 21 rfl rfl)
theorem dX6_look_160 : decode cX6_look 160 = .ok (.putfield 25, 3) := dk_181 0 25 (dk_at dksX6_look_7 0 rfl rfl)
theorem dX6_look_163 : decode cX6_look 163 = .ok (.goto (-63), 3) := dk_167 255 193 (dk_at dksX6_look_7 3 rfl rfl)
theorem dX6_look_166 : decode cX6_look 166 = .ok (.aload_n 0, 1) := dk_42 (dk_at dksX6_look_7 6 rfl rfl)
theorem dX6_look_167 : decode cX6_look 167 = .ok (.getfield 25, 3) := dk_180 0 25 (dk_at dksX6_look_7 7 rfl rfl)
theorem dX6_look_170 : decode cX6_look 170 = .ok (.aload_n 0, 1) := dk_42 (dk_at dksX6_look_7 10 rfl rfl)
theorem dX6_look_171 : decode cX6_look 171 = .ok (.getfield 22, 3) := dk_180 0 22 (dk_at dksX6_look_7 11 rfl rfl)
theorem dX6_look_174 : decode cX6_look 174 = .ok (.isub, 1) := dk_100 (dk_at dksX6_look_7 14 rfl rfl)
theorem dX6_look_175 : decode cX6_look 175 = .ok (.bipush 7, 2) := dk_16 7 (dk_at dksX6_look_7 15 rfl rfl)
theorem dX6_look_177 : decode cX6_look 177 = .ok (.if_icmp .le 145, 3) := dk_164 0 145 (dk_at dksX6_look_7 17 rfl rfl)
theorem dX6_look_180 : decode cX6_look 180 = .ok (.aload_n 0, 1) := dk_42 (dk_at dksX6_look_7 20 rfl rfl)
theorem dX6_look_181 : decode cX6_look 181 = .ok (.ldc2_w 39, 3) := dk_20 0 39 (dk_at dksX6_look_7 21 rfl rfl)
theorem dX6_look_184 : decode cX6_look 184 = .ok (.putfield 28, 3) := dk_181 0 28 (dk_at dksX6_look_8 0 rfl rfl)
theorem dX6_look_187 : decode cX6_look 187 = .ok (.goto 135, 3) := dk_167 0 135 (dk_at dksX6_look_8 3 rfl rfl)
theorem dX6_look_190 : decode cX6_look 190 = .ok (.aload_n 0, 1) := dk_42 (dk_at dksX6_look_8 6 rfl rfl)
theorem dX6_look_191 : decode cX6_look 191 = .ok (.aload_n 0, 1) := dk_42 (dk_at dksX6_look_8 7 rfl rfl)
theorem dX6_look_192 : decode cX6_look 192 = .ok (.getfield 22, 3) := dk_180 0 22 (dk_at dksX6_look_8 8 rfl rfl)
theorem dX6_look_195 : decode cX6_look 195 = .ok (.invokevirtual 41, 3) := dk_182 0 41 (dk_at dksX6_look_8 11 rfl rfl)
theorem dX6_look_198 : decode cX6_look 198 = .ok (.ifCond .eq 95, 3) := dk_153 0 95 (dk_at dksX6_look_8 14 rfl rfl)
theorem dX6_look_201 : decode cX6_look 201 = .ok (.aload_n 0, 1) := dk_42 (dk_at dksX6_look_8 17 rfl rfl)
theorem dX6_look_202 : decode cX6_look 202 = .ok (.iconst 2, 1) := dk_5 (dk_at dksX6_look_8 18 rfl rfl)
theorem dX6_look_203 : decode cX6_look 203 = .ok (.putfield 32, 3) := dk_181 0 32 (dk_at dksX6_look_8 19 rfl rfl)
theorem dX6_look_206 : decode cX6_look 206 = .ok (.aload_n 0, 1) := dk_42 (dk_at dksX6_look_8 22 rfl rfl)
theorem dX6_look_207 : decode cX6_look 207 = .ok (.aload_n 0, 1) := dk_42 (dk_at dksX6_look_8 23 rfl rfl)
theorem dX6_look_208 : decode cX6_look 208 = .ok (.getfield 25, 3) := dk_180 0 25 (dk_at dksX6_look_9 0 rfl rfl)
theorem dX6_look_211 : decode cX6_look 211 = .ok (.invokevirtual 41, 3) := dk_182 0 41 (dk_at dksX6_look_9 3 rfl rfl)
theorem dX6_look_214 : decode cX6_look 214 = .ok (.ifCond .eq 56, 3) := dk_153 0 56 (dk_at dksX6_look_9 6 rfl rfl)
theorem dX6_look_217 : decode cX6_look 217 = .ok (.aload_n 0, 1) := dk_42 (dk_at dksX6_look_9 9 rfl rfl)
theorem dX6_look_218 : decode cX6_look 218 = .ok (.getfield 25, 3) := dk_180 0 25 (dk_at dksX6_look_9 10 rfl rfl)
theorem dX6_look_221 : decode cX6_look 221 = .ok (.aload_n 0, 1) := dk_42 (dk_at dksX6_look_9 13 rfl rfl)
theorem dX6_look_222 : decode cX6_look 222 = .ok (.getfield 22, 3) := dk_180 0 22 (dk_at dksX6_look_9 14 rfl rfl)
theorem dX6_look_225 : decode cX6_look 225 = .ok (.isub, 1) := dk_100 (dk_at dksX6_look_9 17 rfl rfl)
theorem dX6_look_226 : decode cX6_look 226 = .ok (.iconst 4, 1) := dk_7 (dk_at dksX6_look_9 18 rfl rfl)
theorem dX6_look_227 : decode cX6_look 227 = .ok (.if_icmp .ge 30, 3) := dk_162 0 30 (dk_at dksX6_look_9 19 rfl rfl)
theorem dX6_look_230 : decode cX6_look 230 = .ok (.aload_n 0, 1) := dk_42 (dk_at dksX6_look_9 22 rfl rfl)
theorem dX6_look_231 : decode cX6_look 231 = .ok (.ldc2_w 44, 3) := dk_20 0 44 (dk_at dksX6_look_10 0 rfl rfl)
theorem dX6_look_234 : decode cX6_look 234 = .ok (.aload_n 0, 1) := dk_42 (dk_at dksX6_look_10 3 rfl rfl)
theorem dX6_look_235 : decode cX6_look 235 = .ok (.getfield 28, 3) := dk_180 0 28 (dk_at dksX6_look_10 4 rfl rfl)
theorem dX6_look_238 : decode cX6_look 238 = .ok (.lmul, 1) := dk_105 (dk_at dksX6_look_10 7 rfl rfl)
theorem dX6_look_239 : decode cX6_look 239 = .ok (.aload_n 0, 1) := dk_42 (dk_at dksX6_look_10 8 rfl rfl)
theorem dX6_look_240 : decode cX6_look 240 = .ok (.getfield 9, 3) := dk_180 0 9 (dk_at dksX6_look_10 9 rfl rfl)
theorem dX6_look_243 : decode cX6_look 243 = .ok (.aload_n 0, 1) := dk_42 (dk_at dksX6_look_10 12 rfl rfl)
theorem dX6_look_244 : decode cX6_look 244 = .ok (.getfield 25, 3) := dk_180 0 25 (dk_at dksX6_look_10 13 rfl rfl)
theorem dX6_look_247 : decode cX6_look 247 = .ok (.baload, 1) := dk_51 (dk_at dksX6_look_10 16 rfl rfl)
theorem dX6_look_248 : decode cX6_look 248 = .ok (.i2l, 1) := dk_133 (dk_at dksX6_look_10 17 rfl rfl)
theorem dX6_look_249 : decode cX6_look 249 = .ok (.ladd, 1) := dk_97 (dk_at dksX6_look_10 18 rfl rfl)
theorem dX6_look_250 : decode cX6_look 250 = .ok (.ldc2_w 46, 3) := dk_20 0 46 (dk_at dksX6_look_10 19 rfl rfl)
theorem dX6_look_253 : decode cX6_look 253 = .ok (.lsub, 1) := dk_101 (dk_at dksX6_look_10 22 rfl rfl)
theorem dX6_look_254 : decode cX6_look 254 = .ok (.putfield 28, 3) := dk_181 0 28 (dk_at dksX6_look_11 0 rfl rfl)
theorem dX6_look_257 : decode cX6_look 257 = .ok (.aload_n 0, 1) := dk_42 (dk_at dksX6_look_11 3 rfl rfl)
theorem dX6_look_258 : decode cX6_look 258 = .ok (.dup, 1) := dk_89 (dk_at dksX6_look_11 4 rfl rfl)
theorem dX6_look_259 : decode cX6_look 259 = .ok (.getfield 25, 3) := dk_180 0 25 (dk_at dksX6_look_11 5 rfl rfl)
theorem dX6_look_262 : decode cX6_look 262 = .ok (.iconst 1, 1) := dk_4 (dk_at dksX6_look_11 8 rfl rfl)
theorem dX6_look_263 : decode cX6_look 263 = .ok (.iadd, 1) := dk_96 (dk_at dksX6_look_11 9 rfl rfl)
theorem dX6_look_264 : decode cX6_look 264 = .ok (.putfield 25, 3) := dk_181 0 25 (dk_at dksX6_look_11 10 rfl rfl)
theorem dX6_look_267 : decode cX6_look 267 = .ok (.goto (-61), 3) := dk_167 255 195 (dk_at dksX6_look_11 13 rfl rfl)
theorem dX6_look_270 : decode cX6_look 270 = .ok (.aload_n 0, 1) := dk_42 (dk_at dksX6_look_11 16 rfl rfl)
theorem dX6_look_271 : decode cX6_look 271 = .ok (.getfield 25, 3) := dk_180 0 25 (dk_at dksX6_look_11 17 rfl rfl)
theorem dX6_look_274 : decode cX6_look 274 = .ok (.aload_n 0, 1) := dk_42 (dk_at dksX6_look_11 20 rfl rfl)
theorem dX6_look_275 : decode cX6_look 275 = .ok (.getfield 22, 3) := dk_180 0 22 (dk_at dksX6_look_11 21 rfl rfl)
theorem dX6_look_278 : decode cX6_look 278 = .ok (.isub, 1) := dk_100 (dk_at dksX6_look_12 0 rfl rfl)
theorem dX6_look_279 : decode cX6_look 279 = .ok (.iconst 4, 1) := dk_7 (dk_at dksX6_look_12 1 rfl rfl)
theorem dX6_look_280 : decode cX6_look 280 = .ok (.if_icmp .le 42, 3) := dk_164 0 42 (dk_at dksX6_look_12 2 rfl rfl)
theorem dX6_look_283 : decode cX6_look 283 = .ok (.aload_n 0, 1) := dk_42 (dk_at dksX6_look_12 5 rfl rfl)
theorem dX6_look_284 : decode cX6_look 284 = .ok (.ldc2_w 39, 3) := dk_20 0 39 (dk_at dksX6_look_12 6 rfl rfl)
theorem dX6_look_287 : decode cX6_look 287 = .ok (.putfield 28, 3) := dk_181 0 28 (dk_at dksX6_look_12 9 rfl rfl)
theorem dX6_look_290 : decode cX6_look 290 = .ok (.goto 32, 3) := dk_167 0 32 (dk_at dksX6_look_12 12 rfl rfl)
theorem dX6_look_293 : decode cX6_look 293 = .ok (.aload_n 0, 1) := dk_42 (dk_at dksX6_look_12 15 rfl rfl)
theorem dX6_look_294 : decode cX6_look 294 = .ok (.iconst 3, 1) := dk_6 (dk_at dksX6_look_12 16 rfl rfl)
theorem dX6_look_295 : decode cX6_look 295 = .ok (.putfield 32, 3) := dk_181 0 32 (dk_at dksX6_look_12 17 rfl rfl)
theorem dX6_look_298 : decode cX6_look 298 = .ok (.aload_n 0, 1) := dk_42 (dk_at dksX6_look_12 20 rfl rfl)
theorem dX6_look_299 : decode cX6_look 299 = .ok (.aload_n 0, 1) := dk_42 (dk_at dksX6_look_12 21 rfl rfl)
theorem dX6_look_300 : decode cX6_look 300 = .ok (.getfield 9, 3) := dk_180 0 9 (dk_at dksX6_look_13 0 rfl rfl)
theorem dX6_look_303 : decode cX6_look 303 = .ok (.aload_n 0, 1) := dk_42 (dk_at dksX6_look_13 3 rfl rfl)
theorem dX6_look_304 : decode cX6_look 304 = .ok (.getfield 22, 3) := dk_180 0 22 (dk_at dksX6_look_13 4 rfl rfl)
theorem dX6_look_307 : decode cX6_look 307 = .ok (.baload, 1) := dk_51 (dk_at dksX6_look_13 7 rfl rfl)
theorem dX6_look_308 : decode cX6_look 308 = .ok (.i2l, 1) := dk_133 (dk_at dksX6_look_13 8 rfl rfl)
theorem dX6_look_309 : decode cX6_look 309 = .ok (.putfield 28, 3) := dk_181 0 28 (dk_at dksX6_look_13 9 rfl rfl)
theorem dX6_look_312 : decode cX6_look 312 = .ok (.aload_n 0, 1) := dk_42 (dk_at dksX6_look_13 12 rfl rfl)
theorem dX6_look_313 : decode cX6_look 313 = .ok (.dup, 1) := dk_89 (dk_at dksX6_look_13 13 rfl rfl)
theorem dX6_look_314 : decode cX6_look 314 = .ok (.getfield 25, 3) := dk_180 0 25 (dk_at dksX6_look_13 14 rfl rfl)
theorem dX6_look_317 : decode cX6_look 317 = .ok (.iconst 1, 1) := dk_4 (dk_at dksX6_look_13 17 rfl rfl)
theorem dX6_look_318 : decode cX6_look 318 = .ok (.iadd, 1) := dk_96 (dk_at dksX6_look_13 18 rfl rfl)
theorem dX6_look_319 : decode cX6_look 319 = .ok (.putfield 25, 3) := dk_181 0 25 (dk_at dksX6_look_13 19 rfl rfl)
theorem dX6_look_322 : decode cX6_look 322 = .ok (.return_, 1) := dk_177 (dk_at dksX6_look_13 22 rfl rfl)
abbrev cX6_isLetter : ByteArray := prog_18_method_2_code
def yX6_isLetter : MethodName := ⟨RX6, "isLetter", "(I)Z"⟩
def dkwX6_isLetter_1 : List UInt8 := [51, 16, 122, 163, 0, 7, 4, 167, 0, 4, 3, 172]
abbrev dktX6_isLetter_1 : List UInt8 := dkwX6_isLetter_1 ++ []
def dkwX6_isLetter_0 : List UInt8 := [27, 42, 180, 0, 15, 162, 0, 29, 42, 180, 0, 9, 27, 51, 16, 97, 161, 0, 18, 42, 180, 0, 9, 27]
abbrev dktX6_isLetter_0 : List UInt8 := dkwX6_isLetter_0 ++ dktX6_isLetter_1
theorem dksX6_isLetter_0 : cX6_isLetter.data.toList.drop 0 = dktX6_isLetter_0 := by decide +kernel
theorem dksX6_isLetter_1 : cX6_isLetter.data.toList.drop 24 = dktX6_isLetter_1 := dk_seg dksX6_isLetter_0 24 rfl rfl
theorem dX6_isLetter_0 : decode cX6_isLetter 0 = .ok (.iload_n 1, 1) := dk_27 (dk_at dksX6_isLetter_0 0 rfl rfl)
theorem dX6_isLetter_1 : decode cX6_isLetter 1 = .ok (.aload_n 0, 1) := dk_42 (dk_at dksX6_isLetter_0 1 rfl rfl)
theorem dX6_isLetter_2 : decode cX6_isLetter 2 = .ok (.getfield 15, 3) := dk_180 0 15 (dk_at dksX6_isLetter_0 2 rfl rfl)
theorem dX6_isLetter_5 : decode cX6_isLetter 5 = .ok (.if_icmp .ge 29, 3) := dk_162 0 29 (dk_at dksX6_isLetter_0 5 rfl rfl)
theorem dX6_isLetter_8 : decode cX6_isLetter 8 = .ok (.aload_n 0, 1) := dk_42 (dk_at dksX6_isLetter_0 8 rfl rfl)
theorem dX6_isLetter_9 : decode cX6_isLetter 9 = .ok (.getfield 9, 3) := dk_180 0 9 (dk_at dksX6_isLetter_0 9 rfl rfl)
theorem dX6_isLetter_12 : decode cX6_isLetter 12 = .ok (.iload_n 1, 1) := dk_27 (dk_at dksX6_isLetter_0 12 rfl rfl)
theorem dX6_isLetter_13 : decode cX6_isLetter 13 = .ok (.baload, 1) := dk_51 (dk_at dksX6_isLetter_0 13 rfl rfl)
theorem dX6_isLetter_14 : decode cX6_isLetter 14 = .ok (.bipush 97, 2) := dk_16 97 (dk_at dksX6_isLetter_0 14 rfl rfl)
theorem dX6_isLetter_16 : decode cX6_isLetter 16 = .ok (.if_icmp .lt 18, 3) := dk_161 0 18 (dk_at dksX6_isLetter_0 16 rfl rfl)
theorem dX6_isLetter_19 : decode cX6_isLetter 19 = .ok (.aload_n 0, 1) := dk_42 (dk_at dksX6_isLetter_0 19 rfl rfl)
theorem dX6_isLetter_20 : decode cX6_isLetter 20 = .ok (.getfield 9, 3) := dk_180 0 9 (dk_at dksX6_isLetter_0 20 rfl rfl)
theorem dX6_isLetter_23 : decode cX6_isLetter 23 = .ok (.iload_n 1, 1) := dk_27 (dk_at dksX6_isLetter_0 23 rfl rfl)
theorem dX6_isLetter_24 : decode cX6_isLetter 24 = .ok (.baload, 1) := dk_51 (dk_at dksX6_isLetter_1 0 rfl rfl)
theorem dX6_isLetter_25 : decode cX6_isLetter 25 = .ok (.bipush 122, 2) := dk_16 122 (dk_at dksX6_isLetter_1 1 rfl rfl)
theorem dX6_isLetter_27 : decode cX6_isLetter 27 = .ok (.if_icmp .gt 7, 3) := dk_163 0 7 (dk_at dksX6_isLetter_1 3 rfl rfl)
theorem dX6_isLetter_30 : decode cX6_isLetter 30 = .ok (.iconst 1, 1) := dk_4 (dk_at dksX6_isLetter_1 6 rfl rfl)
theorem dX6_isLetter_31 : decode cX6_isLetter 31 = .ok (.goto 4, 3) := dk_167 0 4 (dk_at dksX6_isLetter_1 7 rfl rfl)
theorem dX6_isLetter_34 : decode cX6_isLetter 34 = .ok (.iconst 0, 1) := dk_3 (dk_at dksX6_isLetter_1 10 rfl rfl)
theorem dX6_isLetter_35 : decode cX6_isLetter 35 = .ok (.ireturn, 1) := dk_172 (dk_at dksX6_isLetter_1 11 rfl rfl)
abbrev cX6_isDigit : ByteArray := prog_18_method_3_code
def yX6_isDigit : MethodName := ⟨RX6, "isDigit", "(I)Z"⟩
def dkwX6_isDigit_1 : List UInt8 := [51, 16, 57, 163, 0, 7, 4, 167, 0, 4, 3, 172]
abbrev dktX6_isDigit_1 : List UInt8 := dkwX6_isDigit_1 ++ []
def dkwX6_isDigit_0 : List UInt8 := [27, 42, 180, 0, 15, 162, 0, 29, 42, 180, 0, 9, 27, 51, 16, 48, 161, 0, 18, 42, 180, 0, 9, 27]
abbrev dktX6_isDigit_0 : List UInt8 := dkwX6_isDigit_0 ++ dktX6_isDigit_1
theorem dksX6_isDigit_0 : cX6_isDigit.data.toList.drop 0 = dktX6_isDigit_0 := by decide +kernel
theorem dksX6_isDigit_1 : cX6_isDigit.data.toList.drop 24 = dktX6_isDigit_1 := dk_seg dksX6_isDigit_0 24 rfl rfl
theorem dX6_isDigit_0 : decode cX6_isDigit 0 = .ok (.iload_n 1, 1) := dk_27 (dk_at dksX6_isDigit_0 0 rfl rfl)
theorem dX6_isDigit_1 : decode cX6_isDigit 1 = .ok (.aload_n 0, 1) := dk_42 (dk_at dksX6_isDigit_0 1 rfl rfl)
theorem dX6_isDigit_2 : decode cX6_isDigit 2 = .ok (.getfield 15, 3) := dk_180 0 15 (dk_at dksX6_isDigit_0 2 rfl rfl)
theorem dX6_isDigit_5 : decode cX6_isDigit 5 = .ok (.if_icmp .ge 29, 3) := dk_162 0 29 (dk_at dksX6_isDigit_0 5 rfl rfl)
theorem dX6_isDigit_8 : decode cX6_isDigit 8 = .ok (.aload_n 0, 1) := dk_42 (dk_at dksX6_isDigit_0 8 rfl rfl)
theorem dX6_isDigit_9 : decode cX6_isDigit 9 = .ok (.getfield 9, 3) := dk_180 0 9 (dk_at dksX6_isDigit_0 9 rfl rfl)
theorem dX6_isDigit_12 : decode cX6_isDigit 12 = .ok (.iload_n 1, 1) := dk_27 (dk_at dksX6_isDigit_0 12 rfl rfl)
theorem dX6_isDigit_13 : decode cX6_isDigit 13 = .ok (.baload, 1) := dk_51 (dk_at dksX6_isDigit_0 13 rfl rfl)
theorem dX6_isDigit_14 : decode cX6_isDigit 14 = .ok (.bipush 48, 2) := dk_16 48 (dk_at dksX6_isDigit_0 14 rfl rfl)
theorem dX6_isDigit_16 : decode cX6_isDigit 16 = .ok (.if_icmp .lt 18, 3) := dk_161 0 18 (dk_at dksX6_isDigit_0 16 rfl rfl)
theorem dX6_isDigit_19 : decode cX6_isDigit 19 = .ok (.aload_n 0, 1) := dk_42 (dk_at dksX6_isDigit_0 19 rfl rfl)
theorem dX6_isDigit_20 : decode cX6_isDigit 20 = .ok (.getfield 9, 3) := dk_180 0 9 (dk_at dksX6_isDigit_0 20 rfl rfl)
theorem dX6_isDigit_23 : decode cX6_isDigit 23 = .ok (.iload_n 1, 1) := dk_27 (dk_at dksX6_isDigit_0 23 rfl rfl)
theorem dX6_isDigit_24 : decode cX6_isDigit 24 = .ok (.baload, 1) := dk_51 (dk_at dksX6_isDigit_1 0 rfl rfl)
theorem dX6_isDigit_25 : decode cX6_isDigit 25 = .ok (.bipush 57, 2) := dk_16 57 (dk_at dksX6_isDigit_1 1 rfl rfl)
theorem dX6_isDigit_27 : decode cX6_isDigit 27 = .ok (.if_icmp .gt 7, 3) := dk_163 0 7 (dk_at dksX6_isDigit_1 3 rfl rfl)
theorem dX6_isDigit_30 : decode cX6_isDigit 30 = .ok (.iconst 1, 1) := dk_4 (dk_at dksX6_isDigit_1 6 rfl rfl)
theorem dX6_isDigit_31 : decode cX6_isDigit 31 = .ok (.goto 4, 3) := dk_167 0 4 (dk_at dksX6_isDigit_1 7 rfl rfl)
theorem dX6_isDigit_34 : decode cX6_isDigit 34 = .ok (.iconst 0, 1) := dk_3 (dk_at dksX6_isDigit_1 10 rfl rfl)
theorem dX6_isDigit_35 : decode cX6_isDigit 35 = .ok (.ireturn, 1) := dk_172 (dk_at dksX6_isDigit_1 11 rfl rfl)
abbrev cX6_pass : ByteArray := prog_18_method_5_code
def yX6_pass : MethodName := ⟨RX6, "pass", "()V"⟩
def dkwX6_pass_0 : List UInt8 := [42, 42, 180, 0, 25, 181, 0, 22, 42, 182, 0, 19, 177]
abbrev dktX6_pass_0 : List UInt8 := dkwX6_pass_0 ++ []
theorem dksX6_pass_0 : cX6_pass.data.toList.drop 0 = dktX6_pass_0 := by decide +kernel
theorem dX6_pass_0 : decode cX6_pass 0 = .ok (.aload_n 0, 1) := dk_42 (dk_at dksX6_pass_0 0 rfl rfl)
theorem dX6_pass_1 : decode cX6_pass 1 = .ok (.aload_n 0, 1) := dk_42 (dk_at dksX6_pass_0 1 rfl rfl)
theorem dX6_pass_2 : decode cX6_pass 2 = .ok (.getfield 25, 3) := dk_180 0 25 (dk_at dksX6_pass_0 2 rfl rfl)
theorem dX6_pass_5 : decode cX6_pass 5 = .ok (.putfield 22, 3) := dk_181 0 22 (dk_at dksX6_pass_0 5 rfl rfl)
theorem dX6_pass_8 : decode cX6_pass 8 = .ok (.aload_n 0, 1) := dk_42 (dk_at dksX6_pass_0 8 rfl rfl)
theorem dX6_pass_9 : decode cX6_pass 9 = .ok (.invokevirtual 19, 3) := dk_182 0 19 (dk_at dksX6_pass_0 9 rfl rfl)
theorem dX6_pass_12 : decode cX6_pass 12 = .ok (.return_, 1) := dk_177 (dk_at dksX6_pass_0 12 rfl rfl)
abbrev cX6_name : ByteArray := prog_18_method_10_code
def yX6_name : MethodName := ⟨RX6, "name", "([JI)I"⟩
def dkwX6_name_2 : List UInt8 := [182, 0, 56, 29, 172]
abbrev dktX6_name_2 : List UInt8 := dkwX6_name_2 ++ []
def dkwX6_name_1 : List UInt8 := [167, 0, 4, 2, 62, 29, 2, 159, 0, 8, 29, 28, 160, 0, 10, 42, 4, 181, 0, 48, 3, 172, 42]
abbrev dktX6_name_1 : List UInt8 := dkwX6_name_1 ++ dktX6_name_2
def dkwX6_name_0 : List UInt8 := [42, 180, 0, 48, 154, 0, 22, 42, 180, 0, 32, 4, 160, 0, 14, 43, 42, 180, 0, 28, 184, 0, 66]
abbrev dktX6_name_0 : List UInt8 := dkwX6_name_0 ++ dktX6_name_1
theorem dksX6_name_0 : cX6_name.data.toList.drop 0 = dktX6_name_0 := by decide +kernel
theorem dksX6_name_1 : cX6_name.data.toList.drop 23 = dktX6_name_1 := dk_seg dksX6_name_0 23 rfl rfl
theorem dksX6_name_2 : cX6_name.data.toList.drop 46 = dktX6_name_2 := dk_seg dksX6_name_1 23 rfl rfl
theorem dX6_name_0 : decode cX6_name 0 = .ok (.aload_n 0, 1) := dk_42 (dk_at dksX6_name_0 0 rfl rfl)
theorem dX6_name_1 : decode cX6_name 1 = .ok (.getfield 48, 3) := dk_180 0 48 (dk_at dksX6_name_0 1 rfl rfl)
theorem dX6_name_4 : decode cX6_name 4 = .ok (.ifCond .ne 22, 3) := dk_154 0 22 (dk_at dksX6_name_0 4 rfl rfl)
theorem dX6_name_7 : decode cX6_name 7 = .ok (.aload_n 0, 1) := dk_42 (dk_at dksX6_name_0 7 rfl rfl)
theorem dX6_name_8 : decode cX6_name 8 = .ok (.getfield 32, 3) := dk_180 0 32 (dk_at dksX6_name_0 8 rfl rfl)
theorem dX6_name_11 : decode cX6_name 11 = .ok (.iconst 1, 1) := dk_4 (dk_at dksX6_name_0 11 rfl rfl)
theorem dX6_name_12 : decode cX6_name 12 = .ok (.if_icmp .ne 14, 3) := dk_160 0 14 (dk_at dksX6_name_0 12 rfl rfl)
theorem dX6_name_15 : decode cX6_name 15 = .ok (.aload_n 1, 1) := dk_43 (dk_at dksX6_name_0 15 rfl rfl)
theorem dX6_name_16 : decode cX6_name 16 = .ok (.aload_n 0, 1) := dk_42 (dk_at dksX6_name_0 16 rfl rfl)
theorem dX6_name_17 : decode cX6_name 17 = .ok (.getfield 28, 3) := dk_180 0 28 (dk_at dksX6_name_0 17 rfl rfl)
theorem dX6_name_20 : decode cX6_name 20 = .ok (.invokestatic 66, 3) := dk_184 0 66 (dk_at dksX6_name_0 20 rfl rfl)
theorem dX6_name_23 : decode cX6_name 23 = .ok (.goto 4, 3) := dk_167 0 4 (dk_at dksX6_name_1 0 rfl rfl)
theorem dX6_name_26 : decode cX6_name 26 = .ok (.iconst (-1), 1) := dk_2 (dk_at dksX6_name_1 3 rfl rfl)
theorem dX6_name_27 : decode cX6_name 27 = .ok (.istore_n 3, 1) := dk_62 (dk_at dksX6_name_1 4 rfl rfl)
theorem dX6_name_28 : decode cX6_name 28 = .ok (.iload_n 3, 1) := dk_29 (dk_at dksX6_name_1 5 rfl rfl)
theorem dX6_name_29 : decode cX6_name 29 = .ok (.iconst (-1), 1) := dk_2 (dk_at dksX6_name_1 6 rfl rfl)
theorem dX6_name_30 : decode cX6_name 30 = .ok (.if_icmp .eq 8, 3) := dk_159 0 8 (dk_at dksX6_name_1 7 rfl rfl)
theorem dX6_name_33 : decode cX6_name 33 = .ok (.iload_n 3, 1) := dk_29 (dk_at dksX6_name_1 10 rfl rfl)
theorem dX6_name_34 : decode cX6_name 34 = .ok (.iload_n 2, 1) := dk_28 (dk_at dksX6_name_1 11 rfl rfl)
theorem dX6_name_35 : decode cX6_name 35 = .ok (.if_icmp .ne 10, 3) := dk_160 0 10 (dk_at dksX6_name_1 12 rfl rfl)
theorem dX6_name_38 : decode cX6_name 38 = .ok (.aload_n 0, 1) := dk_42 (dk_at dksX6_name_1 15 rfl rfl)
theorem dX6_name_39 : decode cX6_name 39 = .ok (.iconst 1, 1) := dk_4 (dk_at dksX6_name_1 16 rfl rfl)
theorem dX6_name_40 : decode cX6_name 40 = .ok (.putfield 48, 3) := dk_181 0 48 (dk_at dksX6_name_1 17 rfl rfl)
theorem dX6_name_43 : decode cX6_name 43 = .ok (.iconst 0, 1) := dk_3 (dk_at dksX6_name_1 20 rfl rfl)
theorem dX6_name_44 : decode cX6_name 44 = .ok (.ireturn, 1) := dk_172 (dk_at dksX6_name_1 21 rfl rfl)
theorem dX6_name_45 : decode cX6_name 45 = .ok (.aload_n 0, 1) := dk_42 (dk_at dksX6_name_1 22 rfl rfl)
theorem dX6_name_46 : decode cX6_name 46 = .ok (.invokevirtual 56, 3) := dk_182 0 56 (dk_at dksX6_name_2 0 rfl rfl)
theorem dX6_name_49 : decode cX6_name 49 = .ok (.iload_n 3, 1) := dk_29 (dk_at dksX6_name_2 3 rfl rfl)
theorem dX6_name_50 : decode cX6_name 50 = .ok (.ireturn, 1) := dk_172 (dk_at dksX6_name_2 4 rfl rfl)
abbrev cX6_number : ByteArray := prog_18_method_9_code
def yX6_number : MethodName := ⟨RX6, "number", "(II)I"⟩
def dkwX6_number_2 : List UInt8 := [172]
abbrev dktX6_number_2 : List UInt8 := dkwX6_number_2 ++ []
def dkwX6_number_1 : List UInt8 := [184, 0, 62, 154, 0, 10, 42, 4, 181, 0, 48, 27, 172, 42, 180, 0, 28, 136, 62, 42, 182, 0, 56, 29]
abbrev dktX6_number_1 : List UInt8 := dkwX6_number_1 ++ dktX6_number_2
def dkwX6_number_0 : List UInt8 := [42, 180, 0, 48, 154, 0, 24, 42, 180, 0, 32, 5, 160, 0, 16, 42, 180, 0, 28, 136, 27, 28]
abbrev dktX6_number_0 : List UInt8 := dkwX6_number_0 ++ dktX6_number_1
theorem dksX6_number_0 : cX6_number.data.toList.drop 0 = dktX6_number_0 := by decide +kernel
theorem dksX6_number_1 : cX6_number.data.toList.drop 22 = dktX6_number_1 := dk_seg dksX6_number_0 22 rfl rfl
theorem dksX6_number_2 : cX6_number.data.toList.drop 46 = dktX6_number_2 := dk_seg dksX6_number_1 24 rfl rfl
theorem dX6_number_0 : decode cX6_number 0 = .ok (.aload_n 0, 1) := dk_42 (dk_at dksX6_number_0 0 rfl rfl)
theorem dX6_number_1 : decode cX6_number 1 = .ok (.getfield 48, 3) := dk_180 0 48 (dk_at dksX6_number_0 1 rfl rfl)
theorem dX6_number_4 : decode cX6_number 4 = .ok (.ifCond .ne 24, 3) := dk_154 0 24 (dk_at dksX6_number_0 4 rfl rfl)
theorem dX6_number_7 : decode cX6_number 7 = .ok (.aload_n 0, 1) := dk_42 (dk_at dksX6_number_0 7 rfl rfl)
theorem dX6_number_8 : decode cX6_number 8 = .ok (.getfield 32, 3) := dk_180 0 32 (dk_at dksX6_number_0 8 rfl rfl)
theorem dX6_number_11 : decode cX6_number 11 = .ok (.iconst 2, 1) := dk_5 (dk_at dksX6_number_0 11 rfl rfl)
theorem dX6_number_12 : decode cX6_number 12 = .ok (.if_icmp .ne 16, 3) := dk_160 0 16 (dk_at dksX6_number_0 12 rfl rfl)
theorem dX6_number_15 : decode cX6_number 15 = .ok (.aload_n 0, 1) := dk_42 (dk_at dksX6_number_0 15 rfl rfl)
theorem dX6_number_16 : decode cX6_number 16 = .ok (.getfield 28, 3) := dk_180 0 28 (dk_at dksX6_number_0 16 rfl rfl)
theorem dX6_number_19 : decode cX6_number 19 = .ok (.l2i, 1) := dk_136 (dk_at dksX6_number_0 19 rfl rfl)
theorem dX6_number_20 : decode cX6_number 20 = .ok (.iload_n 1, 1) := dk_27 (dk_at dksX6_number_0 20 rfl rfl)
theorem dX6_number_21 : decode cX6_number 21 = .ok (.iload_n 2, 1) := dk_28 (dk_at dksX6_number_0 21 rfl rfl)
theorem dX6_number_22 : decode cX6_number 22 = .ok (.invokestatic 62, 3) := dk_184 0 62 (dk_at dksX6_number_1 0 rfl rfl)
theorem dX6_number_25 : decode cX6_number 25 = .ok (.ifCond .ne 10, 3) := dk_154 0 10 (dk_at dksX6_number_1 3 rfl rfl)
theorem dX6_number_28 : decode cX6_number 28 = .ok (.aload_n 0, 1) := dk_42 (dk_at dksX6_number_1 6 rfl rfl)
theorem dX6_number_29 : decode cX6_number 29 = .ok (.iconst 1, 1) := dk_4 (dk_at dksX6_number_1 7 rfl rfl)
theorem dX6_number_30 : decode cX6_number 30 = .ok (.putfield 48, 3) := dk_181 0 48 (dk_at dksX6_number_1 8 rfl rfl)
theorem dX6_number_33 : decode cX6_number 33 = .ok (.iload_n 1, 1) := dk_27 (dk_at dksX6_number_1 11 rfl rfl)
theorem dX6_number_34 : decode cX6_number 34 = .ok (.ireturn, 1) := dk_172 (dk_at dksX6_number_1 12 rfl rfl)
theorem dX6_number_35 : decode cX6_number 35 = .ok (.aload_n 0, 1) := dk_42 (dk_at dksX6_number_1 13 rfl rfl)
theorem dX6_number_36 : decode cX6_number 36 = .ok (.getfield 28, 3) := dk_180 0 28 (dk_at dksX6_number_1 14 rfl rfl)
theorem dX6_number_39 : decode cX6_number 39 = .ok (.l2i, 1) := dk_136 (dk_at dksX6_number_1 17 rfl rfl)
theorem dX6_number_40 : decode cX6_number 40 = .ok (.istore_n 3, 1) := dk_62 (dk_at dksX6_number_1 18 rfl rfl)
theorem dX6_number_41 : decode cX6_number 41 = .ok (.aload_n 0, 1) := dk_42 (dk_at dksX6_number_1 19 rfl rfl)
theorem dX6_number_42 : decode cX6_number 42 = .ok (.invokevirtual 56, 3) := dk_182 0 56 (dk_at dksX6_number_1 20 rfl rfl)
theorem dX6_number_45 : decode cX6_number 45 = .ok (.iload_n 3, 1) := dk_29 (dk_at dksX6_number_1 23 rfl rfl)
theorem dX6_number_46 : decode cX6_number 46 = .ok (.ireturn, 1) := dk_172 (dk_at dksX6_number_2 0 rfl rfl)
abbrev cX6_needs : ByteArray := prog_18_method_8_code
def yX6_needs : MethodName := ⟨RX6, "needs", "(IJ)V"⟩
def dkwX6_needs_0 : List UInt8 := [42, 27, 32, 182, 0, 59, 154, 0, 8, 42, 4, 181, 0, 48, 177]
abbrev dktX6_needs_0 : List UInt8 := dkwX6_needs_0 ++ []
theorem dksX6_needs_0 : cX6_needs.data.toList.drop 0 = dktX6_needs_0 := by decide +kernel
theorem dX6_needs_0 : decode cX6_needs 0 = .ok (.aload_n 0, 1) := dk_42 (dk_at dksX6_needs_0 0 rfl rfl)
theorem dX6_needs_1 : decode cX6_needs 1 = .ok (.iload_n 1, 1) := dk_27 (dk_at dksX6_needs_0 1 rfl rfl)
theorem dX6_needs_2 : decode cX6_needs 2 = .ok (.lload_n 2, 1) := dk_32 (dk_at dksX6_needs_0 2 rfl rfl)
theorem dX6_needs_3 : decode cX6_needs 3 = .ok (.invokevirtual 59, 3) := dk_182 0 59 (dk_at dksX6_needs_0 3 rfl rfl)
theorem dX6_needs_6 : decode cX6_needs 6 = .ok (.ifCond .ne 8, 3) := dk_154 0 8 (dk_at dksX6_needs_0 6 rfl rfl)
theorem dX6_needs_9 : decode cX6_needs 9 = .ok (.aload_n 0, 1) := dk_42 (dk_at dksX6_needs_0 9 rfl rfl)
theorem dX6_needs_10 : decode cX6_needs 10 = .ok (.iconst 1, 1) := dk_4 (dk_at dksX6_needs_0 10 rfl rfl)
theorem dX6_needs_11 : decode cX6_needs 11 = .ok (.putfield 48, 3) := dk_181 0 48 (dk_at dksX6_needs_0 11 rfl rfl)
theorem dX6_needs_14 : decode cX6_needs 14 = .ok (.return_, 1) := dk_177 (dk_at dksX6_needs_0 14 rfl rfl)
abbrev cX6_takes : ByteArray := prog_18_method_7_code
def yX6_takes : MethodName := ⟨RX6, "takes", "(IJ)Z"⟩
def dkwX6_takes_0 : List UInt8 := [42, 27, 32, 182, 0, 52, 154, 0, 5, 3, 172, 42, 182, 0, 56, 4, 172]
abbrev dktX6_takes_0 : List UInt8 := dkwX6_takes_0 ++ []
theorem dksX6_takes_0 : cX6_takes.data.toList.drop 0 = dktX6_takes_0 := by decide +kernel
theorem dX6_takes_0 : decode cX6_takes 0 = .ok (.aload_n 0, 1) := dk_42 (dk_at dksX6_takes_0 0 rfl rfl)
theorem dX6_takes_1 : decode cX6_takes 1 = .ok (.iload_n 1, 1) := dk_27 (dk_at dksX6_takes_0 1 rfl rfl)
theorem dX6_takes_2 : decode cX6_takes 2 = .ok (.lload_n 2, 1) := dk_32 (dk_at dksX6_takes_0 2 rfl rfl)
theorem dX6_takes_3 : decode cX6_takes 3 = .ok (.invokevirtual 52, 3) := dk_182 0 52 (dk_at dksX6_takes_0 3 rfl rfl)
theorem dX6_takes_6 : decode cX6_takes 6 = .ok (.ifCond .ne 5, 3) := dk_154 0 5 (dk_at dksX6_takes_0 6 rfl rfl)
theorem dX6_takes_9 : decode cX6_takes 9 = .ok (.iconst 0, 1) := dk_3 (dk_at dksX6_takes_0 9 rfl rfl)
theorem dX6_takes_10 : decode cX6_takes 10 = .ok (.ireturn, 1) := dk_172 (dk_at dksX6_takes_0 10 rfl rfl)
theorem dX6_takes_11 : decode cX6_takes 11 = .ok (.aload_n 0, 1) := dk_42 (dk_at dksX6_takes_0 11 rfl rfl)
theorem dX6_takes_12 : decode cX6_takes 12 = .ok (.invokevirtual 56, 3) := dk_182 0 56 (dk_at dksX6_takes_0 12 rfl rfl)
theorem dX6_takes_15 : decode cX6_takes 15 = .ok (.iconst 1, 1) := dk_4 (dk_at dksX6_takes_0 15 rfl rfl)
theorem dX6_takes_16 : decode cX6_takes 16 = .ok (.ireturn, 1) := dk_172 (dk_at dksX6_takes_0 16 rfl rfl)
abbrev cX6_is : ByteArray := prog_18_method_6_code
def yX6_is : MethodName := ⟨RX6, "is", "(IJ)Z"⟩
def dkwX6_is_1 : List UInt8 := [4, 167, 0, 4, 3, 172]
abbrev dktX6_is_1 : List UInt8 := dkwX6_is_1 ++ []
def dkwX6_is_0 : List UInt8 := [42, 180, 0, 48, 154, 0, 24, 42, 180, 0, 32, 27, 160, 0, 16, 42, 180, 0, 28, 32, 148, 154, 0, 7]
abbrev dktX6_is_0 : List UInt8 := dkwX6_is_0 ++ dktX6_is_1
theorem dksX6_is_0 : cX6_is.data.toList.drop 0 = dktX6_is_0 := by decide +kernel
theorem dksX6_is_1 : cX6_is.data.toList.drop 24 = dktX6_is_1 := dk_seg dksX6_is_0 24 rfl rfl
theorem dX6_is_0 : decode cX6_is 0 = .ok (.aload_n 0, 1) := dk_42 (dk_at dksX6_is_0 0 rfl rfl)
theorem dX6_is_1 : decode cX6_is 1 = .ok (.getfield 48, 3) := dk_180 0 48 (dk_at dksX6_is_0 1 rfl rfl)
theorem dX6_is_4 : decode cX6_is 4 = .ok (.ifCond .ne 24, 3) := dk_154 0 24 (dk_at dksX6_is_0 4 rfl rfl)
theorem dX6_is_7 : decode cX6_is 7 = .ok (.aload_n 0, 1) := dk_42 (dk_at dksX6_is_0 7 rfl rfl)
theorem dX6_is_8 : decode cX6_is 8 = .ok (.getfield 32, 3) := dk_180 0 32 (dk_at dksX6_is_0 8 rfl rfl)
theorem dX6_is_11 : decode cX6_is 11 = .ok (.iload_n 1, 1) := dk_27 (dk_at dksX6_is_0 11 rfl rfl)
theorem dX6_is_12 : decode cX6_is 12 = .ok (.if_icmp .ne 16, 3) := dk_160 0 16 (dk_at dksX6_is_0 12 rfl rfl)
theorem dX6_is_15 : decode cX6_is 15 = .ok (.aload_n 0, 1) := dk_42 (dk_at dksX6_is_0 15 rfl rfl)
theorem dX6_is_16 : decode cX6_is 16 = .ok (.getfield 28, 3) := dk_180 0 28 (dk_at dksX6_is_0 16 rfl rfl)
theorem dX6_is_19 : decode cX6_is 19 = .ok (.lload_n 2, 1) := dk_32 (dk_at dksX6_is_0 19 rfl rfl)
theorem dX6_is_20 : decode cX6_is 20 = .ok (.lcmp, 1) := dk_148 (dk_at dksX6_is_0 20 rfl rfl)
theorem dX6_is_21 : decode cX6_is 21 = .ok (.ifCond .ne 7, 3) := dk_154 0 7 (dk_at dksX6_is_0 21 rfl rfl)
theorem dX6_is_24 : decode cX6_is 24 = .ok (.iconst 1, 1) := dk_4 (dk_at dksX6_is_1 0 rfl rfl)
theorem dX6_is_25 : decode cX6_is 25 = .ok (.goto 4, 3) := dk_167 0 4 (dk_at dksX6_is_1 1 rfl rfl)
theorem dX6_is_28 : decode cX6_is 28 = .ok (.iconst 0, 1) := dk_3 (dk_at dksX6_is_1 4 rfl rfl)
theorem dX6_is_29 : decode cX6_is 29 = .ok (.ireturn, 1) := dk_172 (dk_at dksX6_is_1 5 rfl rfl)
abbrev cX6_place : ByteArray := prog_18_method_11_code
def yX6_place : MethodName := ⟨RX6, "place", "()I"⟩
theorem dX6_place_0 : decode cX6_place 0 = .ok (.aload_n 0, 1) := by decide +kernel
theorem dX6_place_1 : decode cX6_place 1 = .ok (.getfield 22, 3) := by decide +kernel
theorem dX6_place_4 : decode cX6_place 4 = .ok (.ireturn, 1) := by decide +kernel
theorem q97 : (Jvm.Cond.initialized "LoanNames$Reader") ∈ lw_all := lw_g (lw_at lw_m1 7 rfl) rfl
theorem q340 : (Jvm.Cond.instanceMethod ({ cls := "LoanNames$Reader", name := "<init>", desc := "([BI)V" } : Jvm.MethodName)) ∈ lw_all := lw_g (lw_at lw_m2 10 rfl) rfl
theorem q341 : (Jvm.Cond.code ({ cls := "LoanNames$Reader", name := "<init>", desc := "([BI)V" } : Jvm.MethodName) prog_18_method_1_code (3 : Nat) (Option.none : Option Jvm.ClassFile.FieldType)) ∈ lw_all := lw_g (lw_at lw_m2 11 rfl) rfl
theorem q342 : (Jvm.Cond.methodLink "LoanNames$Reader" (3 : Nat) ({ cls := "java/lang/Object", name := "<init>", desc := "()V" } : Jvm.MethodName)) ∈ lw_all := lw_g (lw_at lw_m2 12 rfl) rfl
theorem q343 : (Jvm.Cond.methodLink "LoanNames$Reader" (19 : Nat) ({ cls := "LoanNames$Reader", name := "look", desc := "()V" } : Jvm.MethodName)) ∈ lw_all := lw_g (lw_at lw_m2 13 rfl) rfl
theorem q344 : (Jvm.Cond.privateMethod ({ cls := "LoanNames$Reader", name := "look", desc := "()V" } : Jvm.MethodName)) ∈ lw_tbl := lw_at lw_m2 14 rfl
theorem q345 : (Jvm.Cond.instanceMethod ({ cls := "LoanNames$Reader", name := "look", desc := "()V" } : Jvm.MethodName)) ∈ lw_all := lw_g (lw_at lw_m2 15 rfl) rfl
theorem q346 : (Jvm.Cond.instantiable "LoanNames$Reader" (7 : Nat)) ∈ lw_all := lw_g (lw_at lw_m2 16 rfl) rfl
theorem q347 : (Jvm.Cond.code ({ cls := "LoanNames$Reader", name := "look", desc := "()V" } : Jvm.MethodName) prog_18_method_4_code (1 : Nat) (Option.none : Option Jvm.ClassFile.FieldType)) ∈ lw_all := lw_g (lw_at lw_m2 17 rfl) rfl
theorem q348 : (Jvm.Cond.methodLink "LoanNames$Reader" (35 : Nat) ({ cls := "LoanNames$Reader", name := "isLetter", desc := "(I)Z" } : Jvm.MethodName)) ∈ lw_all := lw_g (lw_at lw_m2 18 rfl) rfl
theorem q349 : (Jvm.Cond.privateMethod ({ cls := "LoanNames$Reader", name := "isLetter", desc := "(I)Z" } : Jvm.MethodName)) ∈ lw_tbl := lw_at lw_m2 19 rfl
theorem q350 : (Jvm.Cond.instanceMethod ({ cls := "LoanNames$Reader", name := "isLetter", desc := "(I)Z" } : Jvm.MethodName)) ∈ lw_all := lw_g (lw_at lw_m2 20 rfl) rfl
theorem q351 : (Jvm.Cond.code ({ cls := "LoanNames$Reader", name := "isLetter", desc := "(I)Z" } : Jvm.MethodName) prog_18_method_2_code (2 : Nat) (Option.some Jvm.ClassFile.FieldType.boolean)) ∈ lw_all := lw_g (lw_at lw_m2 21 rfl) rfl
theorem q352 : (Jvm.Cond.constantLong "LoanNames$Reader" (39 : Nat) (-1 : Int64)) ∈ lw_all := lw_g (lw_at lw_m2 22 rfl) rfl
theorem q353 : (Jvm.Cond.methodLink "LoanNames$Reader" (41 : Nat) ({ cls := "LoanNames$Reader", name := "isDigit", desc := "(I)Z" } : Jvm.MethodName)) ∈ lw_all := lw_g (lw_at lw_m2 23 rfl) rfl
theorem q354 : (Jvm.Cond.privateMethod ({ cls := "LoanNames$Reader", name := "isDigit", desc := "(I)Z" } : Jvm.MethodName)) ∈ lw_tbl := lw_at lw_m2 24 rfl
theorem q355 : (Jvm.Cond.instanceMethod ({ cls := "LoanNames$Reader", name := "isDigit", desc := "(I)Z" } : Jvm.MethodName)) ∈ lw_all := lw_g (lw_at lw_m2 25 rfl) rfl
theorem q356 : (Jvm.Cond.code ({ cls := "LoanNames$Reader", name := "isDigit", desc := "(I)Z" } : Jvm.MethodName) prog_18_method_3_code (2 : Nat) (Option.some Jvm.ClassFile.FieldType.boolean)) ∈ lw_all := lw_g (lw_at lw_m2 26 rfl) rfl
theorem q357 : (Jvm.Cond.constantLong "LoanNames$Reader" (44 : Nat) (10 : Int64)) ∈ lw_all := lw_g (lw_at lw_m2 27 rfl) rfl
theorem q358 : (Jvm.Cond.constantLong "LoanNames$Reader" (46 : Nat) (48 : Int64)) ∈ lw_all := lw_g (lw_at lw_m2 28 rfl) rfl
theorem q365 : (Jvm.Cond.fieldLink "LoanNames$Reader" (9 : Nat) "LoanNames$Reader" "text" "[B") ∈ lw_all := lw_g (lw_at lw_m2 35 rfl) rfl
theorem q366 : (Jvm.Cond.fieldLink "LoanNames$Reader" (15 : Nat) "LoanNames$Reader" "size" "I") ∈ lw_all := lw_g (lw_at lw_m2 36 rfl) rfl
theorem q367 : (Jvm.Cond.fieldLink "LoanNames$Reader" (22 : Nat) "LoanNames$Reader" "at" "I") ∈ lw_all := lw_g (lw_at lw_m2 37 rfl) rfl
theorem q368 : (Jvm.Cond.fieldLink "LoanNames$Reader" (25 : Nat) "LoanNames$Reader" "end" "I") ∈ lw_all := lw_g (lw_at lw_m2 38 rfl) rfl
theorem q373 : (Jvm.Cond.fieldLink "LoanNames$Reader" (32 : Nat) "LoanNames$Reader" "kind" "I") ∈ lw_all := lw_g (lw_at lw_m2 43 rfl) rfl
theorem q376 : (Jvm.Cond.fieldLink "LoanNames$Reader" (28 : Nat) "LoanNames$Reader" "word" "J") ∈ lw_all := lw_g (lw_at lw_m2 46 rfl) rfl
theorem q383 : (Jvm.Cond.fieldLink "LoanNames$Reader" (48 : Nat) "LoanNames$Reader" "wrong" "Z") ∈ lw_all := lw_g (lw_at lw_m2 53 rfl) rfl
theorem q393 : (Jvm.Cond.soleField "LoanNames$Reader" "text") ∈ lw_all := lw_g (lw_at lw_m2 63 rfl) rfl
theorem q395 : (Jvm.Cond.soleField "LoanNames$Reader" "size") ∈ lw_all := lw_g (lw_at lw_m2 65 rfl) rfl
theorem q397 : (Jvm.Cond.soleField "LoanNames$Reader" "at") ∈ lw_all := lw_g (lw_at lw_m2 67 rfl) rfl
theorem q399 : (Jvm.Cond.soleField "LoanNames$Reader" "end") ∈ lw_all := lw_g (lw_at lw_m2 69 rfl) rfl
theorem q401 : (Jvm.Cond.soleField "LoanNames$Reader" "kind") ∈ lw_all := lw_g (lw_at lw_m2 71 rfl) rfl
theorem q403 : (Jvm.Cond.soleField "LoanNames$Reader" "word") ∈ lw_all := lw_g (lw_at lw_m2 73 rfl) rfl
theorem q405 : (Jvm.Cond.soleField "LoanNames$Reader" "wrong") ∈ lw_all := lw_g (lw_at lw_m2 75 rfl) rfl
theorem q448 : (Jvm.Cond.declares ({ cls := "LoanNames$Reader", name := "pass", desc := "()V" } : Jvm.MethodName)) ∈ lw_tbl := lw_at lw_m2 118 rfl
theorem q450 : (Jvm.Cond.instanceMethod ({ cls := "LoanNames$Reader", name := "pass", desc := "()V" } : Jvm.MethodName)) ∈ lw_all := lw_g (lw_at lw_m2 120 rfl) rfl
theorem q451 : (Jvm.Cond.code ({ cls := "LoanNames$Reader", name := "pass", desc := "()V" } : Jvm.MethodName) prog_18_method_5_code (1 : Nat) (Option.none : Option Jvm.ClassFile.FieldType)) ∈ lw_all := lw_g (lw_at lw_m2 121 rfl) rfl
theorem q456 : (Jvm.Cond.declares ({ cls := "LoanNames$Reader", name := "name", desc := "([JI)I" } : Jvm.MethodName)) ∈ lw_tbl := lw_at lw_m2 126 rfl
theorem q458 : (Jvm.Cond.instanceMethod ({ cls := "LoanNames$Reader", name := "name", desc := "([JI)I" } : Jvm.MethodName)) ∈ lw_all := lw_g (lw_at lw_m2 128 rfl) rfl
theorem q459 : (Jvm.Cond.code ({ cls := "LoanNames$Reader", name := "name", desc := "([JI)I" } : Jvm.MethodName) prog_18_method_10_code (4 : Nat) (Option.some Jvm.ClassFile.FieldType.int)) ∈ lw_all := lw_g (lw_at lw_m2 129 rfl) rfl
theorem q460 : (Jvm.Cond.methodLinkNest "LoanNames$Reader" (66 : Nat) ({ cls := "LoanNames", name := "find", desc := "([JJ)I" } : Jvm.MethodName) "LoanNames") ∈ lw_tbl := lw_at lw_m2 130 rfl
theorem q461 : (Jvm.Cond.methodLink "LoanNames$Reader" (56 : Nat) ({ cls := "LoanNames$Reader", name := "pass", desc := "()V" } : Jvm.MethodName)) ∈ lw_all := lw_g (lw_at lw_m2 131 rfl) rfl
theorem q466 : (Jvm.Cond.declares ({ cls := "LoanNames$Reader", name := "number", desc := "(II)I" } : Jvm.MethodName)) ∈ lw_tbl := lw_at lw_m2 136 rfl
theorem q468 : (Jvm.Cond.instanceMethod ({ cls := "LoanNames$Reader", name := "number", desc := "(II)I" } : Jvm.MethodName)) ∈ lw_all := lw_g (lw_at lw_m2 138 rfl) rfl
theorem q469 : (Jvm.Cond.code ({ cls := "LoanNames$Reader", name := "number", desc := "(II)I" } : Jvm.MethodName) prog_18_method_9_code (4 : Nat) (Option.some Jvm.ClassFile.FieldType.int)) ∈ lw_all := lw_g (lw_at lw_m2 139 rfl) rfl
theorem q470 : (Jvm.Cond.methodLinkNest "LoanNames$Reader" (62 : Nat) ({ cls := "LoanNames", name := "isIn", desc := "(III)Z" } : Jvm.MethodName) "LoanNames") ∈ lw_tbl := lw_at lw_m2 140 rfl
theorem q475 : (Jvm.Cond.declares ({ cls := "LoanNames$Reader", name := "needs", desc := "(IJ)V" } : Jvm.MethodName)) ∈ lw_tbl := lw_at lw_m2 145 rfl
theorem q477 : (Jvm.Cond.instanceMethod ({ cls := "LoanNames$Reader", name := "needs", desc := "(IJ)V" } : Jvm.MethodName)) ∈ lw_all := lw_g (lw_at lw_m2 147 rfl) rfl
theorem q478 : (Jvm.Cond.code ({ cls := "LoanNames$Reader", name := "needs", desc := "(IJ)V" } : Jvm.MethodName) prog_18_method_8_code (4 : Nat) (Option.none : Option Jvm.ClassFile.FieldType)) ∈ lw_all := lw_g (lw_at lw_m2 148 rfl) rfl
theorem q479 : (Jvm.Cond.methodLink "LoanNames$Reader" (59 : Nat) ({ cls := "LoanNames$Reader", name := "takes", desc := "(IJ)Z" } : Jvm.MethodName)) ∈ lw_all := lw_g (lw_at lw_m2 149 rfl) rfl
theorem q480 : (Jvm.Cond.instanceMethod ({ cls := "LoanNames$Reader", name := "takes", desc := "(IJ)Z" } : Jvm.MethodName)) ∈ lw_all := lw_g (lw_at lw_m2 150 rfl) rfl
theorem q481 : (Jvm.Cond.sameMethod "LoanNames$Reader" "LoanNames$Reader" "takes" "(IJ)Z") ∈ lw_all := lw_g (lw_at lw_m2 151 rfl) rfl
theorem q484 : (Jvm.Cond.code ({ cls := "LoanNames$Reader", name := "takes", desc := "(IJ)Z" } : Jvm.MethodName) prog_18_method_7_code (4 : Nat) (Option.some Jvm.ClassFile.FieldType.boolean)) ∈ lw_all := lw_g (lw_at lw_m2 154 rfl) rfl
theorem q485 : (Jvm.Cond.methodLink "LoanNames$Reader" (52 : Nat) ({ cls := "LoanNames$Reader", name := "is", desc := "(IJ)Z" } : Jvm.MethodName)) ∈ lw_all := lw_g (lw_at lw_m2 155 rfl) rfl
theorem q486 : (Jvm.Cond.instanceMethod ({ cls := "LoanNames$Reader", name := "is", desc := "(IJ)Z" } : Jvm.MethodName)) ∈ lw_all := lw_g (lw_at lw_m2 156 rfl) rfl
theorem q487 : (Jvm.Cond.sameMethod "LoanNames$Reader" "LoanNames$Reader" "is" "(IJ)Z") ∈ lw_all := lw_g (lw_at lw_m2 157 rfl) rfl
theorem q490 : (Jvm.Cond.code ({ cls := "LoanNames$Reader", name := "is", desc := "(IJ)Z" } : Jvm.MethodName) prog_18_method_6_code (4 : Nat) (Option.some Jvm.ClassFile.FieldType.boolean)) ∈ lw_all := lw_g (lw_at lw_m2 160 rfl) rfl
theorem q580 : (Jvm.Cond.declares ({ cls := "LoanNames$Reader", name := "takes", desc := "(IJ)Z" } : Jvm.MethodName)) ∈ lw_tbl := lw_at lw_m3 10 rfl
theorem q602 : (Jvm.Cond.declares ({ cls := "LoanNames$Reader", name := "is", desc := "(IJ)Z" } : Jvm.MethodName)) ∈ lw_tbl := lw_at lw_m3 32 rfl
theorem q689 : (Jvm.Cond.declares ({ cls := "LoanNames$Reader", name := "place", desc := "()I" } : Jvm.MethodName)) ∈ lw_tbl := lw_at lw_m3 119 rfl
theorem q691 : (Jvm.Cond.instanceMethod ({ cls := "LoanNames$Reader", name := "place", desc := "()I" } : Jvm.MethodName)) ∈ lw_all := lw_g (lw_at lw_m3 121 rfl) rfl
theorem q692 : (Jvm.Cond.code ({ cls := "LoanNames$Reader", name := "place", desc := "()I" } : Jvm.MethodName) prog_18_method_11_code (1 : Nat) (Option.some Jvm.ClassFile.FieldType.int)) ∈ lw_all := lw_g (lw_at lw_m3 122 rfl) rfl
theorem q2142 : (Jvm.Cond.sameMethod "LoanNames$Reader" "LoanNames$Reader" "look" "()V") ∈ lw_all := lw_g (lw_at lw_m9 132 rfl) rfl
theorem q2143 : (Jvm.Cond.sameMethod "LoanNames$Reader" "LoanNames$Reader" "isLetter" "(I)Z") ∈ lw_all := lw_g (lw_at lw_m9 133 rfl) rfl
theorem q2144 : (Jvm.Cond.sameMethod "LoanNames$Reader" "LoanNames$Reader" "isDigit" "(I)Z") ∈ lw_all := lw_g (lw_at lw_m9 134 rfl) rfl
theorem q2145 : (Jvm.Cond.sameMethod "LoanNames$Reader" "LoanNames$Reader" "pass" "()V") ∈ lw_all := lw_g (lw_at lw_m9 135 rfl) rfl
/-! LoanNames$DealReader -/
set_option maxRecDepth 100000
def RX7 : String := "LoanNames$DealReader"
def TX7 : u_T := fun k => match k with
  | 0 => ("LoanNames$Reader", "text", "[B", true)
  | 1 => ("LoanNames$Reader", "size", "I", true)
  | 2 => ("LoanNames$Reader", "at", "I", false)
  | 3 => ("LoanNames$Reader", "end", "I", false)
  | 4 => ("LoanNames$Reader", "kind", "I", false)
  | 5 => ("LoanNames$Reader", "word", "J", false)
  | 6 => ("LoanNames$Reader", "wrong", "Z", false)
  | 7 => ("LoanNames$DealReader", "leaves", "I", false)
  | 8 => ("LoanNames$DealReader", "choices", "I", false)
  | 9 => ("LoanNames$DealReader", "events", "I", false)
  | _ => ("LoanNames$DealReader", "deep", "I", false)
def tyX7 : Nat → FieldType := fun k => match k with
  | 0 => .array .byte
  | 1 => .int
  | 2 => .int
  | 3 => .int
  | 4 => .int
  | 5 => .long
  | 6 => .boolean
  | 7 => .int
  | 8 => .int
  | 9 => .int
  | _ => .int
abbrev wsX70 : List Cond := u_ws RX7 TX7 11
theorem nmX7 : ∀ a, a < 11 → ∀ b, b < 11 → a ≠ b → (TX7 a).2.1 ≠ (TX7 b).2.1 := by decide +kernel
theorem tyX7_ok : ∀ k, k < 11 → parseFieldDescriptor (TX7 k).2.2.1 = some (tyX7 k) := by decide +kernel
abbrev cX7_init : ByteArray := prog_7_method_1_code
def yX7_init : MethodName := ⟨RX7, "<init>", "([BI)V"⟩
def dkwX7_init_0 : List UInt8 := [42, 43, 28, 183, 0, 3, 177]
abbrev dktX7_init_0 : List UInt8 := dkwX7_init_0 ++ []
theorem dksX7_init_0 : cX7_init.data.toList.drop 0 = dktX7_init_0 := by decide +kernel
theorem dX7_init_0 : decode cX7_init 0 = .ok (.aload_n 0, 1) := dk_42 (dk_at dksX7_init_0 0 rfl rfl)
theorem dX7_init_1 : decode cX7_init 1 = .ok (.aload_n 1, 1) := dk_43 (dk_at dksX7_init_0 1 rfl rfl)
theorem dX7_init_2 : decode cX7_init 2 = .ok (.iload_n 2, 1) := dk_28 (dk_at dksX7_init_0 2 rfl rfl)
theorem dX7_init_3 : decode cX7_init 3 = .ok (.invokespecial 3, 3) := dk_183 0 3 (dk_at dksX7_init_0 3 rfl rfl)
theorem dX7_init_6 : decode cX7_init 6 = .ok (.return_, 1) := dk_177 (dk_at dksX7_init_0 6 rfl rfl)
abbrev cX7_reads : ByteArray := prog_7_method_2_code
def yX7_reads : MethodName := ⟨RX7, "reads", "()LLoanNames$All;"⟩
def dkwX7_reads_1 : List UInt8 := [42, 180, 0, 15, 153, 0, 7, 1, 167, 0, 4, 43, 176]
abbrev dktX7_reads_1 : List UInt8 := dkwX7_reads_1 ++ []
def dkwX7_reads_0 : List UInt8 := [42, 182, 0, 9, 76, 42, 180, 0, 15, 154, 0, 15, 42, 180, 0, 19, 153, 0, 8, 42, 4, 181, 0, 15]
abbrev dktX7_reads_0 : List UInt8 := dkwX7_reads_0 ++ dktX7_reads_1
theorem dksX7_reads_0 : cX7_reads.data.toList.drop 0 = dktX7_reads_0 := by decide +kernel
theorem dksX7_reads_1 : cX7_reads.data.toList.drop 24 = dktX7_reads_1 := dk_seg dksX7_reads_0 24 rfl rfl
theorem dX7_reads_0 : decode cX7_reads 0 = .ok (.aload_n 0, 1) := dk_42 (dk_at dksX7_reads_0 0 rfl rfl)
theorem dX7_reads_1 : decode cX7_reads 1 = .ok (.invokevirtual 9, 3) := dk_182 0 9 (dk_at dksX7_reads_0 1 rfl rfl)
theorem dX7_reads_4 : decode cX7_reads 4 = .ok (.astore_n 1, 1) := dk_76 (dk_at dksX7_reads_0 4 rfl rfl)
theorem dX7_reads_5 : decode cX7_reads 5 = .ok (.aload_n 0, 1) := dk_42 (dk_at dksX7_reads_0 5 rfl rfl)
theorem dX7_reads_6 : decode cX7_reads 6 = .ok (.getfield 15, 3) := dk_180 0 15 (dk_at dksX7_reads_0 6 rfl rfl)
theorem dX7_reads_9 : decode cX7_reads 9 = .ok (.ifCond .ne 15, 3) := dk_154 0 15 (dk_at dksX7_reads_0 9 rfl rfl)
theorem dX7_reads_12 : decode cX7_reads 12 = .ok (.aload_n 0, 1) := dk_42 (dk_at dksX7_reads_0 12 rfl rfl)
theorem dX7_reads_13 : decode cX7_reads 13 = .ok (.getfield 19, 3) := dk_180 0 19 (dk_at dksX7_reads_0 13 rfl rfl)
theorem dX7_reads_16 : decode cX7_reads 16 = .ok (.ifCond .eq 8, 3) := dk_153 0 8 (dk_at dksX7_reads_0 16 rfl rfl)
theorem dX7_reads_19 : decode cX7_reads 19 = .ok (.aload_n 0, 1) := dk_42 (dk_at dksX7_reads_0 19 rfl rfl)
theorem dX7_reads_20 : decode cX7_reads 20 = .ok (.iconst 1, 1) := dk_4 (dk_at dksX7_reads_0 20 rfl rfl)
theorem dX7_reads_21 : decode cX7_reads 21 = .ok (.putfield 15, 3) := dk_181 0 15 (dk_at dksX7_reads_0 21 rfl rfl)
theorem dX7_reads_24 : decode cX7_reads 24 = .ok (.aload_n 0, 1) := dk_42 (dk_at dksX7_reads_1 0 rfl rfl)
theorem dX7_reads_25 : decode cX7_reads 25 = .ok (.getfield 15, 3) := dk_180 0 15 (dk_at dksX7_reads_1 1 rfl rfl)
theorem dX7_reads_28 : decode cX7_reads 28 = .ok (.ifCond .eq 7, 3) := dk_153 0 7 (dk_at dksX7_reads_1 4 rfl rfl)
theorem dX7_reads_31 : decode cX7_reads 31 = .ok (.aconst_null, 1) := dk_1 (dk_at dksX7_reads_1 7 rfl rfl)
theorem dX7_reads_32 : decode cX7_reads 32 = .ok (.goto 4, 3) := dk_167 0 4 (dk_at dksX7_reads_1 8 rfl rfl)
theorem dX7_reads_35 : decode cX7_reads 35 = .ok (.aload_n 1, 1) := dk_43 (dk_at dksX7_reads_1 11 rfl rfl)
theorem dX7_reads_36 : decode cX7_reads 36 = .ok (.areturn, 1) := dk_176 (dk_at dksX7_reads_1 12 rfl rfl)
abbrev cX7_all : ByteArray := prog_7_method_3_code
def yX7_all : MethodName := ⟨RX7, "all", "()LLoanNames$All;"⟩
def dkwX7_all_1 : List UInt8 := [154, 255, 240, 43, 176]
abbrev dktX7_all_1 : List UInt8 := dkwX7_all_1 ++ []
def dkwX7_all_0 : List UInt8 := [187, 0, 23, 89, 183, 0, 25, 76, 43, 42, 182, 0, 28, 182, 0, 32, 42, 6, 20, 0, 36, 182, 0, 38]
abbrev dktX7_all_0 : List UInt8 := dkwX7_all_0 ++ dktX7_all_1
theorem dksX7_all_0 : cX7_all.data.toList.drop 0 = dktX7_all_0 := by decide +kernel
theorem dksX7_all_1 : cX7_all.data.toList.drop 24 = dktX7_all_1 := dk_seg dksX7_all_0 24 rfl rfl
theorem dX7_all_0 : decode cX7_all 0 = .ok (.new 23, 3) := dk_187 0 23 (dk_at dksX7_all_0 0 rfl rfl)
theorem dX7_all_3 : decode cX7_all 3 = .ok (.dup, 1) := dk_89 (dk_at dksX7_all_0 3 rfl rfl)
theorem dX7_all_4 : decode cX7_all 4 = .ok (.invokespecial 25, 3) := dk_183 0 25 (dk_at dksX7_all_0 4 rfl rfl)
theorem dX7_all_7 : decode cX7_all 7 = .ok (.astore_n 1, 1) := dk_76 (dk_at dksX7_all_0 7 rfl rfl)
theorem dX7_all_8 : decode cX7_all 8 = .ok (.aload_n 1, 1) := dk_43 (dk_at dksX7_all_0 8 rfl rfl)
theorem dX7_all_9 : decode cX7_all 9 = .ok (.aload_n 0, 1) := dk_42 (dk_at dksX7_all_0 9 rfl rfl)
theorem dX7_all_10 : decode cX7_all 10 = .ok (.invokevirtual 28, 3) := dk_182 0 28 (dk_at dksX7_all_0 10 rfl rfl)
theorem dX7_all_13 : decode cX7_all 13 = .ok (.invokevirtual 32, 3) := dk_182 0 32 (dk_at dksX7_all_0 13 rfl rfl)
theorem dX7_all_16 : decode cX7_all 16 = .ok (.aload_n 0, 1) := dk_42 (dk_at dksX7_all_0 16 rfl rfl)
theorem dX7_all_17 : decode cX7_all 17 = .ok (.iconst 3, 1) := dk_6 (dk_at dksX7_all_0 17 rfl rfl)
theorem dX7_all_18 : decode cX7_all 18 = .ok (.ldc2_w 36, 3) := dk_20 0 36 (dk_at dksX7_all_0 18 rfl rfl)
theorem dX7_all_21 : decode cX7_all 21 = .ok (.invokevirtual 38, 3) := dk_182 0 38 (dk_at dksX7_all_0 21 rfl rfl)
theorem dX7_all_24 : decode cX7_all 24 = .ok (.ifCond .ne (-16), 3) := dk_154 255 240 (dk_at dksX7_all_1 0 rfl rfl)
theorem dX7_all_27 : decode cX7_all 27 = .ok (.aload_n 1, 1) := dk_43 (dk_at dksX7_all_1 3 rfl rfl)
theorem dX7_all_28 : decode cX7_all 28 = .ok (.areturn, 1) := dk_176 (dk_at dksX7_all_1 4 rfl rfl)
abbrev cX7_part : ByteArray := prog_7_method_5_code
def yX7_part : MethodName := ⟨RX7, "part", "()LLoanNames$Part;"⟩
def dkwX7_part_8 : List UInt8 := [183, 0, 114, 176, 42, 182, 0, 117, 176]
abbrev dktX7_part_8 : List UInt8 := dkwX7_part_8 ++ []
def dkwX7_part_7 : List UInt8 := [178, 0, 111, 182, 0, 38, 153, 0, 10, 42, 182, 0, 84, 167, 0, 10, 187, 0, 23, 89, 183, 0, 25]
abbrev dktX7_part_7 : List UInt8 := dkwX7_part_7 ++ dktX7_part_8
def dkwX7_part_6 : List UInt8 := [180, 0, 106, 4, 28, 120, 128, 181, 0, 106, 42, 182, 0, 84, 78, 187, 0, 109, 89, 28, 45, 42, 4]
abbrev dktX7_part_6 : List UInt8 := dkwX7_part_6 ++ dktX7_part_7
def dkwX7_part_5 : List UInt8 := [182, 0, 38, 153, 0, 71, 42, 178, 0, 99, 2, 182, 0, 102, 61, 42, 180, 0, 15, 154, 0, 15, 42, 89]
abbrev dktX7_part_5 : List UInt8 := dkwX7_part_5 ++ dktX7_part_6
def dkwX7_part_4 : List UInt8 := [182, 0, 78, 61, 187, 0, 93, 89, 28, 42, 182, 0, 84, 183, 0, 95, 176, 42, 4, 178, 0, 96]
abbrev dktX7_part_4 : List UInt8 := dkwX7_part_4 ++ dktX7_part_5
def dkwX7_part_3 : List UInt8 := [28, 42, 182, 0, 84, 183, 0, 87, 176, 42, 4, 178, 0, 90, 182, 0, 38, 153, 0, 24, 42, 3, 16, 9]
abbrev dktX7_part_3 : List UInt8 := dkwX7_part_3 ++ dktX7_part_4
def dkwX7_part_2 : List UInt8 := [42, 4, 178, 0, 75, 182, 0, 38, 153, 0, 25, 42, 3, 17, 1, 143, 182, 0, 78, 61, 187, 0, 82, 89]
abbrev dktX7_part_2 : List UInt8 := dkwX7_part_2 ++ dktX7_part_3
def dkwX7_part_1 : List UInt8 := [184, 0, 67, 167, 0, 4, 2, 60, 27, 2, 159, 0, 14, 27, 7, 159, 0, 9, 42, 27, 182, 0, 71, 176]
abbrev dktX7_part_1 : List UInt8 := dkwX7_part_1 ++ dktX7_part_2
def dkwX7_part_0 : List UInt8 := [42, 180, 0, 15, 153, 0, 5, 1, 176, 42, 180, 0, 19, 4, 160, 0, 16, 178, 0, 59, 42, 180, 0, 63]
abbrev dktX7_part_0 : List UInt8 := dkwX7_part_0 ++ dktX7_part_1
theorem dksX7_part_0 : cX7_part.data.toList.drop 0 = dktX7_part_0 := by decide +kernel
theorem dksX7_part_1 : cX7_part.data.toList.drop 24 = dktX7_part_1 := dk_seg dksX7_part_0 24 rfl rfl
theorem dksX7_part_2 : cX7_part.data.toList.drop 48 = dktX7_part_2 := dk_seg dksX7_part_1 24 rfl rfl
theorem dksX7_part_3 : cX7_part.data.toList.drop 72 = dktX7_part_3 := dk_seg dksX7_part_2 24 rfl rfl
theorem dksX7_part_4 : cX7_part.data.toList.drop 96 = dktX7_part_4 := dk_seg dksX7_part_3 24 rfl rfl
theorem dksX7_part_5 : cX7_part.data.toList.drop 118 = dktX7_part_5 := dk_seg dksX7_part_4 22 rfl rfl
theorem dksX7_part_6 : cX7_part.data.toList.drop 142 = dktX7_part_6 := dk_seg dksX7_part_5 24 rfl rfl
theorem dksX7_part_7 : cX7_part.data.toList.drop 165 = dktX7_part_7 := dk_seg dksX7_part_6 23 rfl rfl
theorem dksX7_part_8 : cX7_part.data.toList.drop 188 = dktX7_part_8 := dk_seg dksX7_part_7 23 rfl rfl
theorem dX7_part_0 : decode cX7_part 0 = .ok (.aload_n 0, 1) := dk_42 (dk_at dksX7_part_0 0 rfl rfl)
theorem dX7_part_1 : decode cX7_part 1 = .ok (.getfield 15, 3) := dk_180 0 15 (dk_at dksX7_part_0 1 rfl rfl)
theorem dX7_part_4 : decode cX7_part 4 = .ok (.ifCond .eq 5, 3) := dk_153 0 5 (dk_at dksX7_part_0 4 rfl rfl)
theorem dX7_part_7 : decode cX7_part 7 = .ok (.aconst_null, 1) := dk_1 (dk_at dksX7_part_0 7 rfl rfl)
theorem dX7_part_8 : decode cX7_part 8 = .ok (.areturn, 1) := dk_176 (dk_at dksX7_part_0 8 rfl rfl)
theorem dX7_part_9 : decode cX7_part 9 = .ok (.aload_n 0, 1) := dk_42 (dk_at dksX7_part_0 9 rfl rfl)
theorem dX7_part_10 : decode cX7_part 10 = .ok (.getfield 19, 3) := dk_180 0 19 (dk_at dksX7_part_0 10 rfl rfl)
theorem dX7_part_13 : decode cX7_part 13 = .ok (.iconst 1, 1) := dk_4 (dk_at dksX7_part_0 13 rfl rfl)
theorem dX7_part_14 : decode cX7_part 14 = .ok (.if_icmp .ne 16, 3) := dk_160 0 16 (dk_at dksX7_part_0 14 rfl rfl)
theorem dX7_part_17 : decode cX7_part 17 = .ok (.getstatic 59, 3) := dk_178 0 59 (dk_at dksX7_part_0 17 rfl rfl)
theorem dX7_part_20 : decode cX7_part 20 = .ok (.aload_n 0, 1) := dk_42 (dk_at dksX7_part_0 20 rfl rfl)
theorem dX7_part_21 : decode cX7_part 21 = .ok (.getfield 63, 3) := dk_180 0 63 (dk_at dksX7_part_0 21 rfl rfl)
theorem dX7_part_24 : decode cX7_part 24 = .ok (.invokestatic 67, 3) := dk_184 0 67 (dk_at dksX7_part_1 0 rfl rfl)
theorem dX7_part_27 : decode cX7_part 27 = .ok (.goto 4, 3) := dk_167 0 4 (dk_at dksX7_part_1 3 rfl rfl)
theorem dX7_part_30 : decode cX7_part 30 = .ok (.iconst (-1), 1) := dk_2 (dk_at dksX7_part_1 6 rfl rfl)
theorem dX7_part_31 : decode cX7_part 31 = .ok (.istore_n 1, 1) := dk_60 (dk_at dksX7_part_1 7 rfl rfl)
theorem dX7_part_32 : decode cX7_part 32 = .ok (.iload_n 1, 1) := dk_27 (dk_at dksX7_part_1 8 rfl rfl)
theorem dX7_part_33 : decode cX7_part 33 = .ok (.iconst (-1), 1) := dk_2 (dk_at dksX7_part_1 9 rfl rfl)
theorem dX7_part_34 : decode cX7_part 34 = .ok (.if_icmp .eq 14, 3) := dk_159 0 14 (dk_at dksX7_part_1 10 rfl rfl)
theorem dX7_part_37 : decode cX7_part 37 = .ok (.iload_n 1, 1) := dk_27 (dk_at dksX7_part_1 13 rfl rfl)
theorem dX7_part_38 : decode cX7_part 38 = .ok (.iconst 4, 1) := dk_7 (dk_at dksX7_part_1 14 rfl rfl)
theorem dX7_part_39 : decode cX7_part 39 = .ok (.if_icmp .eq 9, 3) := dk_159 0 9 (dk_at dksX7_part_1 15 rfl rfl)
theorem dX7_part_42 : decode cX7_part 42 = .ok (.aload_n 0, 1) := dk_42 (dk_at dksX7_part_1 18 rfl rfl)
theorem dX7_part_43 : decode cX7_part 43 = .ok (.iload_n 1, 1) := dk_27 (dk_at dksX7_part_1 19 rfl rfl)
theorem dX7_part_44 : decode cX7_part 44 = .ok (.invokevirtual 71, 3) := dk_182 0 71 (dk_at dksX7_part_1 20 rfl rfl)
theorem dX7_part_47 : decode cX7_part 47 = .ok (.areturn, 1) := dk_176 (dk_at dksX7_part_1 23 rfl rfl)
theorem dX7_part_48 : decode cX7_part 48 = .ok (.aload_n 0, 1) := dk_42 (dk_at dksX7_part_2 0 rfl rfl)
theorem dX7_part_49 : decode cX7_part 49 = .ok (.iconst 1, 1) := dk_4 (dk_at dksX7_part_2 1 rfl rfl)
theorem dX7_part_50 : decode cX7_part 50 = .ok (.getstatic 75, 3) := dk_178 0 75 (dk_at dksX7_part_2 2 rfl rfl)
theorem dX7_part_53 : decode cX7_part 53 = .ok (.invokevirtual 38, 3) := dk_182 0 38 (dk_at dksX7_part_2 5 rfl rfl)
theorem dX7_part_56 : decode cX7_part 56 = .ok (.ifCond .eq 25, 3) := dk_153 0 25 (dk_at dksX7_part_2 8 rfl rfl)
theorem dX7_part_59 : decode cX7_part 59 = .ok (.aload_n 0, 1) := dk_42 (dk_at dksX7_part_2 11 rfl rfl)
theorem dX7_part_60 : decode cX7_part 60 = .ok (.iconst 0, 1) := dk_3 (dk_at dksX7_part_2 12 rfl rfl)
theorem dX7_part_61 : decode cX7_part 61 = .ok (.sipush 399, 3) := dk_17 1 143 (dk_at dksX7_part_2 13 rfl rfl)
theorem dX7_part_64 : decode cX7_part 64 = .ok (.invokevirtual 78, 3) := dk_182 0 78 (dk_at dksX7_part_2 16 rfl rfl)
theorem dX7_part_67 : decode cX7_part 67 = .ok (.istore_n 2, 1) := dk_61 (dk_at dksX7_part_2 19 rfl rfl)
theorem dX7_part_68 : decode cX7_part 68 = .ok (.new 82, 3) := dk_187 0 82 (dk_at dksX7_part_2 20 rfl rfl)
theorem dX7_part_71 : decode cX7_part 71 = .ok (.dup, 1) := dk_89 (dk_at dksX7_part_2 23 rfl rfl)
theorem dX7_part_72 : decode cX7_part 72 = .ok (.iload_n 2, 1) := dk_28 (dk_at dksX7_part_3 0 rfl rfl)
theorem dX7_part_73 : decode cX7_part 73 = .ok (.aload_n 0, 1) := dk_42 (dk_at dksX7_part_3 1 rfl rfl)
theorem dX7_part_74 : decode cX7_part 74 = .ok (.invokevirtual 84, 3) := dk_182 0 84 (dk_at dksX7_part_3 2 rfl rfl)
theorem dX7_part_77 : decode cX7_part 77 = .ok (.invokespecial 87, 3) := dk_183 0 87 (dk_at dksX7_part_3 5 rfl rfl)
theorem dX7_part_80 : decode cX7_part 80 = .ok (.areturn, 1) := dk_176 (dk_at dksX7_part_3 8 rfl rfl)
theorem dX7_part_81 : decode cX7_part 81 = .ok (.aload_n 0, 1) := dk_42 (dk_at dksX7_part_3 9 rfl rfl)
theorem dX7_part_82 : decode cX7_part 82 = .ok (.iconst 1, 1) := dk_4 (dk_at dksX7_part_3 10 rfl rfl)
theorem dX7_part_83 : decode cX7_part 83 = .ok (.getstatic 90, 3) := dk_178 0 90 (dk_at dksX7_part_3 11 rfl rfl)
theorem dX7_part_86 : decode cX7_part 86 = .ok (.invokevirtual 38, 3) := dk_182 0 38 (dk_at dksX7_part_3 14 rfl rfl)
theorem dX7_part_89 : decode cX7_part 89 = .ok (.ifCond .eq 24, 3) := dk_153 0 24 (dk_at dksX7_part_3 17 rfl rfl)
theorem dX7_part_92 : decode cX7_part 92 = .ok (.aload_n 0, 1) := dk_42 (dk_at dksX7_part_3 20 rfl rfl)
theorem dX7_part_93 : decode cX7_part 93 = .ok (.iconst 0, 1) := dk_3 (dk_at dksX7_part_3 21 rfl rfl)
theorem dX7_part_94 : decode cX7_part 94 = .ok (.bipush 9, 2) := dk_16 9 (dk_at dksX7_part_3 22 rfl rfl)
theorem dX7_part_96 : decode cX7_part 96 = .ok (.invokevirtual 78, 3) := dk_182 0 78 (dk_at dksX7_part_4 0 rfl rfl)
theorem dX7_part_99 : decode cX7_part 99 = .ok (.istore_n 2, 1) := dk_61 (dk_at dksX7_part_4 3 rfl rfl)
theorem dX7_part_100 : decode cX7_part 100 = .ok (.new 93, 3) := dk_187 0 93 (dk_at dksX7_part_4 4 rfl rfl)
theorem dX7_part_103 : decode cX7_part 103 = .ok (.dup, 1) := dk_89 (dk_at dksX7_part_4 7 rfl rfl)
theorem dX7_part_104 : decode cX7_part 104 = .ok (.iload_n 2, 1) := dk_28 (dk_at dksX7_part_4 8 rfl rfl)
theorem dX7_part_105 : decode cX7_part 105 = .ok (.aload_n 0, 1) := dk_42 (dk_at dksX7_part_4 9 rfl rfl)
theorem dX7_part_106 : decode cX7_part 106 = .ok (.invokevirtual 84, 3) := dk_182 0 84 (dk_at dksX7_part_4 10 rfl rfl)
theorem dX7_part_109 : decode cX7_part 109 = .ok (.invokespecial 95, 3) := dk_183 0 95 (dk_at dksX7_part_4 13 rfl rfl)
theorem dX7_part_112 : decode cX7_part 112 = .ok (.areturn, 1) := dk_176 (dk_at dksX7_part_4 16 rfl rfl)
theorem dX7_part_113 : decode cX7_part 113 = .ok (.aload_n 0, 1) := dk_42 (dk_at dksX7_part_4 17 rfl rfl)
theorem dX7_part_114 : decode cX7_part 114 = .ok (.iconst 1, 1) := dk_4 (dk_at dksX7_part_4 18 rfl rfl)
theorem dX7_part_115 : decode cX7_part 115 = .ok (.getstatic 96, 3) := dk_178 0 96 (dk_at dksX7_part_4 19 rfl rfl)
theorem dX7_part_118 : decode cX7_part 118 = .ok (.invokevirtual 38, 3) := dk_182 0 38 (dk_at dksX7_part_5 0 rfl rfl)
theorem dX7_part_121 : decode cX7_part 121 = .ok (.ifCond .eq 71, 3) := dk_153 0 71 (dk_at dksX7_part_5 3 rfl rfl)
theorem dX7_part_124 : decode cX7_part 124 = .ok (.aload_n 0, 1) := dk_42 (dk_at dksX7_part_5 6 rfl rfl)
theorem dX7_part_125 : decode cX7_part 125 = .ok (.getstatic 99, 3) := dk_178 0 99 (dk_at dksX7_part_5 7 rfl rfl)
theorem dX7_part_128 : decode cX7_part 128 = .ok (.iconst (-1), 1) := dk_2 (dk_at dksX7_part_5 10 rfl rfl)
theorem dX7_part_129 : decode cX7_part 129 = .ok (.invokevirtual 102, 3) := dk_182 0 102 (dk_at dksX7_part_5 11 rfl rfl)
theorem dX7_part_132 : decode cX7_part 132 = .ok (.istore_n 2, 1) := dk_61 (dk_at dksX7_part_5 14 rfl rfl)
theorem dX7_part_133 : decode cX7_part 133 = .ok (.aload_n 0, 1) := dk_42 (dk_at dksX7_part_5 15 rfl rfl)
theorem dX7_part_134 : decode cX7_part 134 = .ok (.getfield 15, 3) := dk_180 0 15 (dk_at dksX7_part_5 16 rfl rfl)
theorem dX7_part_137 : decode cX7_part 137 = .ok (.ifCond .ne 15, 3) := dk_154 0 15 (dk_at dksX7_part_5 19 rfl rfl)
theorem dX7_part_140 : decode cX7_part 140 = .ok (.aload_n 0, 1) := dk_42 (dk_at dksX7_part_5 22 rfl rfl)
theorem dX7_part_141 : decode cX7_part 141 = .ok (.dup, 1) := dk_89 (dk_at dksX7_part_5 23 rfl rfl)
theorem dX7_part_142 : decode cX7_part 142 = .ok (.getfield 106, 3) := dk_180 0 106 (dk_at dksX7_part_6 0 rfl rfl)
theorem dX7_part_145 : decode cX7_part 145 = .ok (.iconst 1, 1) := dk_4 (dk_at dksX7_part_6 3 rfl rfl)
theorem dX7_part_146 : decode cX7_part 146 = .ok (.iload_n 2, 1) := dk_28 (dk_at dksX7_part_6 4 rfl rfl)
theorem dX7_part_147 : decode cX7_part 147 = .ok (.ishl, 1) := dk_120 (dk_at dksX7_part_6 5 rfl rfl)
theorem dX7_part_148 : decode cX7_part 148 = .ok (.ior, 1) := dk_128 (dk_at dksX7_part_6 6 rfl rfl)
theorem dX7_part_149 : decode cX7_part 149 = .ok (.putfield 106, 3) := dk_181 0 106 (dk_at dksX7_part_6 7 rfl rfl)
theorem dX7_part_152 : decode cX7_part 152 = .ok (.aload_n 0, 1) := dk_42 (dk_at dksX7_part_6 10 rfl rfl)
theorem dX7_part_153 : decode cX7_part 153 = .ok (.invokevirtual 84, 3) := dk_182 0 84 (dk_at dksX7_part_6 11 rfl rfl)
theorem dX7_part_156 : decode cX7_part 156 = .ok (.astore_n 3, 1) := dk_78 (dk_at dksX7_part_6 14 rfl rfl)
theorem dX7_part_157 : decode cX7_part 157 = .ok (.new 109, 3) := dk_187 0 109 (dk_at dksX7_part_6 15 rfl rfl)
theorem dX7_part_160 : decode cX7_part 160 = .ok (.dup, 1) := dk_89 (dk_at dksX7_part_6 18 rfl rfl)
theorem dX7_part_161 : decode cX7_part 161 = .ok (.iload_n 2, 1) := dk_28 (dk_at dksX7_part_6 19 rfl rfl)
theorem dX7_part_162 : decode cX7_part 162 = .ok (.aload_n 3, 1) := dk_45 (dk_at dksX7_part_6 20 rfl rfl)
theorem dX7_part_163 : decode cX7_part 163 = .ok (.aload_n 0, 1) := dk_42 (dk_at dksX7_part_6 21 rfl rfl)
theorem dX7_part_164 : decode cX7_part 164 = .ok (.iconst 1, 1) := dk_4 (dk_at dksX7_part_6 22 rfl rfl)
theorem dX7_part_165 : decode cX7_part 165 = .ok (.getstatic 111, 3) := dk_178 0 111 (dk_at dksX7_part_7 0 rfl rfl)
theorem dX7_part_168 : decode cX7_part 168 = .ok (.invokevirtual 38, 3) := dk_182 0 38 (dk_at dksX7_part_7 3 rfl rfl)
theorem dX7_part_171 : decode cX7_part 171 = .ok (.ifCond .eq 10, 3) := dk_153 0 10 (dk_at dksX7_part_7 6 rfl rfl)
theorem dX7_part_174 : decode cX7_part 174 = .ok (.aload_n 0, 1) := dk_42 (dk_at dksX7_part_7 9 rfl rfl)
theorem dX7_part_175 : decode cX7_part 175 = .ok (.invokevirtual 84, 3) := dk_182 0 84 (dk_at dksX7_part_7 10 rfl rfl)
theorem dX7_part_178 : decode cX7_part 178 = .ok (.goto 10, 3) := dk_167 0 10 (dk_at dksX7_part_7 13 rfl rfl)
theorem dX7_part_181 : decode cX7_part 181 = .ok (.new 23, 3) := dk_187 0 23 (dk_at dksX7_part_7 16 rfl rfl)
theorem dX7_part_184 : decode cX7_part 184 = .ok (.dup, 1) := dk_89 (dk_at dksX7_part_7 19 rfl rfl)
theorem dX7_part_185 : decode cX7_part 185 = .ok (.invokespecial 25, 3) := dk_183 0 25 (dk_at dksX7_part_7 20 rfl rfl)
theorem dX7_part_188 : decode cX7_part 188 = .ok (.invokespecial 114, 3) := dk_183 0 114 (dk_at dksX7_part_8 0 rfl rfl)
theorem dX7_part_191 : decode cX7_part 191 = .ok (.areturn, 1) := dk_176 (dk_at dksX7_part_8 3 rfl rfl)
theorem dX7_part_192 : decode cX7_part 192 = .ok (.aload_n 0, 1) := dk_42 (dk_at dksX7_part_8 4 rfl rfl)
theorem dX7_part_193 : decode cX7_part 193 = .ok (.invokevirtual 117, 3) := dk_182 0 117 (dk_at dksX7_part_8 5 rfl rfl)
theorem dX7_part_196 : decode cX7_part 196 = .ok (.areturn, 1) := dk_176 (dk_at dksX7_part_8 8 rfl rfl)
abbrev cX7_leaf : ByteArray := prog_7_method_7_code
def yX7_leaf : MethodName := ⟨RX7, "leaf", "(I)LLoanNames$Part;"⟩
def dkwX7_leaf_9 : List UInt8 := [17, 1, 143, 182, 0, 78, 167, 0, 5, 21, 7, 183, 0, 167, 176]
abbrev dktX7_leaf_9 : List UInt8 := dkwX7_leaf_9 ++ []
def dkwX7_leaf_8 : List UInt8 := [21, 4, 21, 5, 21, 6, 21, 7, 42, 4, 178, 0, 164, 182, 0, 38, 153, 0, 15, 42, 21, 7]
abbrev dktX7_leaf_8 : List UInt8 := dkwX7_leaf_8 ++ dktX7_leaf_9
def dkwX7_leaf_7 : List UInt8 := [187, 0, 157, 89, 27, 28, 29, 21, 4, 21, 5, 21, 7, 183, 0, 159, 176, 187, 0, 162, 89, 28, 29]
abbrev dktX7_leaf_7 : List UInt8 := dkwX7_leaf_7 ++ dktX7_leaf_8
def dkwX7_leaf_6 : List UInt8 := [21, 5, 21, 6, 21, 7, 42, 21, 7, 17, 1, 143, 182, 0, 78, 183, 0, 154, 176, 27, 5, 159, 0, 20]
abbrev dktX7_leaf_6 : List UInt8 := dkwX7_leaf_6 ++ dktX7_leaf_7
def dkwX7_leaf_5 : List UInt8 := [54, 7, 27, 6, 160, 0, 38, 42, 4, 178, 0, 149, 182, 0, 55, 187, 0, 152, 89, 28, 29, 21, 4]
abbrev dktX7_leaf_5 : List UInt8 := dkwX7_leaf_5 ++ dktX7_leaf_6
def dkwX7_leaf_4 : List UInt8 := [17, 39, 15, 182, 0, 78, 54, 6, 42, 4, 178, 0, 146, 182, 0, 55, 42, 3, 17, 1, 143, 182, 0, 78]
abbrev dktX7_leaf_4 : List UInt8 := dkwX7_leaf_4 ++ dktX7_leaf_5
def dkwX7_leaf_3 : List UInt8 := [3, 54, 6, 27, 5, 159, 0, 8, 27, 6, 160, 0, 21, 42, 4, 178, 0, 143, 182, 0, 55, 42, 3]
abbrev dktX7_leaf_3 : List UInt8 := dkwX7_leaf_3 ++ dktX7_leaf_4
def dkwX7_leaf_2 : List UInt8 := [182, 0, 102, 62, 42, 178, 0, 140, 2, 182, 0, 102, 54, 4, 42, 3, 17, 39, 15, 182, 0, 78, 54, 5]
abbrev dktX7_leaf_2 : List UInt8 := dkwX7_leaf_2 ++ dktX7_leaf_3
def dkwX7_leaf_1 : List UInt8 := [180, 0, 137, 4, 96, 181, 0, 137, 42, 178, 0, 126, 2, 182, 0, 102, 61, 42, 178, 0, 126, 28]
abbrev dktX7_leaf_1 : List UInt8 := dkwX7_leaf_1 ++ dktX7_leaf_2
def dkwX7_leaf_0 : List UInt8 := [42, 180, 0, 137, 16, 12, 160, 0, 10, 42, 4, 181, 0, 15, 1, 176, 42, 182, 0, 50, 42, 89]
abbrev dktX7_leaf_0 : List UInt8 := dkwX7_leaf_0 ++ dktX7_leaf_1
theorem dksX7_leaf_0 : cX7_leaf.data.toList.drop 0 = dktX7_leaf_0 := by decide +kernel
theorem dksX7_leaf_1 : cX7_leaf.data.toList.drop 22 = dktX7_leaf_1 := dk_seg dksX7_leaf_0 22 rfl rfl
theorem dksX7_leaf_2 : cX7_leaf.data.toList.drop 44 = dktX7_leaf_2 := dk_seg dksX7_leaf_1 22 rfl rfl
theorem dksX7_leaf_3 : cX7_leaf.data.toList.drop 68 = dktX7_leaf_3 := dk_seg dksX7_leaf_2 24 rfl rfl
theorem dksX7_leaf_4 : cX7_leaf.data.toList.drop 91 = dktX7_leaf_4 := dk_seg dksX7_leaf_3 23 rfl rfl
theorem dksX7_leaf_5 : cX7_leaf.data.toList.drop 115 = dktX7_leaf_5 := dk_seg dksX7_leaf_4 24 rfl rfl
theorem dksX7_leaf_6 : cX7_leaf.data.toList.drop 138 = dktX7_leaf_6 := dk_seg dksX7_leaf_5 23 rfl rfl
theorem dksX7_leaf_7 : cX7_leaf.data.toList.drop 162 = dktX7_leaf_7 := dk_seg dksX7_leaf_6 24 rfl rfl
theorem dksX7_leaf_8 : cX7_leaf.data.toList.drop 185 = dktX7_leaf_8 := dk_seg dksX7_leaf_7 23 rfl rfl
theorem dksX7_leaf_9 : cX7_leaf.data.toList.drop 207 = dktX7_leaf_9 := dk_seg dksX7_leaf_8 22 rfl rfl
theorem dX7_leaf_0 : decode cX7_leaf 0 = .ok (.aload_n 0, 1) := dk_42 (dk_at dksX7_leaf_0 0 rfl rfl)
theorem dX7_leaf_1 : decode cX7_leaf 1 = .ok (.getfield 137, 3) := dk_180 0 137 (dk_at dksX7_leaf_0 1 rfl rfl)
theorem dX7_leaf_4 : decode cX7_leaf 4 = .ok (.bipush 12, 2) := dk_16 12 (dk_at dksX7_leaf_0 4 rfl rfl)
theorem dX7_leaf_6 : decode cX7_leaf 6 = .ok (.if_icmp .ne 10, 3) := dk_160 0 10 (dk_at dksX7_leaf_0 6 rfl rfl)
theorem dX7_leaf_9 : decode cX7_leaf 9 = .ok (.aload_n 0, 1) := dk_42 (dk_at dksX7_leaf_0 9 rfl rfl)
theorem dX7_leaf_10 : decode cX7_leaf 10 = .ok (.iconst 1, 1) := dk_4 (dk_at dksX7_leaf_0 10 rfl rfl)
theorem dX7_leaf_11 : decode cX7_leaf 11 = .ok (.putfield 15, 3) := dk_181 0 15 (dk_at dksX7_leaf_0 11 rfl rfl)
theorem dX7_leaf_14 : decode cX7_leaf 14 = .ok (.aconst_null, 1) := dk_1 (dk_at dksX7_leaf_0 14 rfl rfl)
theorem dX7_leaf_15 : decode cX7_leaf 15 = .ok (.areturn, 1) := dk_176 (dk_at dksX7_leaf_0 15 rfl rfl)
theorem dX7_leaf_16 : decode cX7_leaf 16 = .ok (.aload_n 0, 1) := dk_42 (dk_at dksX7_leaf_0 16 rfl rfl)
theorem dX7_leaf_17 : decode cX7_leaf 17 = .ok (.invokevirtual 50, 3) := dk_182 0 50 (dk_at dksX7_leaf_0 17 rfl rfl)
theorem dX7_leaf_20 : decode cX7_leaf 20 = .ok (.aload_n 0, 1) := dk_42 (dk_at dksX7_leaf_0 20 rfl rfl)
theorem dX7_leaf_21 : decode cX7_leaf 21 = .ok (.dup, 1) := dk_89 (dk_at dksX7_leaf_0 21 rfl rfl)
theorem dX7_leaf_22 : decode cX7_leaf 22 = .ok (.getfield 137, 3) := dk_180 0 137 (dk_at dksX7_leaf_1 0 rfl rfl)
theorem dX7_leaf_25 : decode cX7_leaf 25 = .ok (.iconst 1, 1) := dk_4 (dk_at dksX7_leaf_1 3 rfl rfl)
theorem dX7_leaf_26 : decode cX7_leaf 26 = .ok (.iadd, 1) := dk_96 (dk_at dksX7_leaf_1 4 rfl rfl)
theorem dX7_leaf_27 : decode cX7_leaf 27 = .ok (.putfield 137, 3) := dk_181 0 137 (dk_at dksX7_leaf_1 5 rfl rfl)
theorem dX7_leaf_30 : decode cX7_leaf 30 = .ok (.aload_n 0, 1) := dk_42 (dk_at dksX7_leaf_1 8 rfl rfl)
theorem dX7_leaf_31 : decode cX7_leaf 31 = .ok (.getstatic 126, 3) := dk_178 0 126 (dk_at dksX7_leaf_1 9 rfl rfl)
theorem dX7_leaf_34 : decode cX7_leaf 34 = .ok (.iconst (-1), 1) := dk_2 (dk_at dksX7_leaf_1 12 rfl rfl)
theorem dX7_leaf_35 : decode cX7_leaf 35 = .ok (.invokevirtual 102, 3) := dk_182 0 102 (dk_at dksX7_leaf_1 13 rfl rfl)
theorem dX7_leaf_38 : decode cX7_leaf 38 = .ok (.istore_n 2, 1) := dk_61 (dk_at dksX7_leaf_1 16 rfl rfl)
theorem dX7_leaf_39 : decode cX7_leaf 39 = .ok (.aload_n 0, 1) := dk_42 (dk_at dksX7_leaf_1 17 rfl rfl)
theorem dX7_leaf_40 : decode cX7_leaf 40 = .ok (.getstatic 126, 3) := dk_178 0 126 (dk_at dksX7_leaf_1 18 rfl rfl)
theorem dX7_leaf_43 : decode cX7_leaf 43 = .ok (.iload_n 2, 1) := dk_28 (dk_at dksX7_leaf_1 21 rfl rfl)
theorem dX7_leaf_44 : decode cX7_leaf 44 = .ok (.invokevirtual 102, 3) := dk_182 0 102 (dk_at dksX7_leaf_2 0 rfl rfl)
theorem dX7_leaf_47 : decode cX7_leaf 47 = .ok (.istore_n 3, 1) := dk_62 (dk_at dksX7_leaf_2 3 rfl rfl)
theorem dX7_leaf_48 : decode cX7_leaf 48 = .ok (.aload_n 0, 1) := dk_42 (dk_at dksX7_leaf_2 4 rfl rfl)
theorem dX7_leaf_49 : decode cX7_leaf 49 = .ok (.getstatic 140, 3) := dk_178 0 140 (dk_at dksX7_leaf_2 5 rfl rfl)
theorem dX7_leaf_52 : decode cX7_leaf 52 = .ok (.iconst (-1), 1) := dk_2 (dk_at dksX7_leaf_2 8 rfl rfl)
theorem dX7_leaf_53 : decode cX7_leaf 53 = .ok (.invokevirtual 102, 3) := dk_182 0 102 (dk_at dksX7_leaf_2 9 rfl rfl)
theorem dX7_leaf_56 : decode cX7_leaf 56 = .ok (.istore 4, 2) := dk_54 4 (dk_at dksX7_leaf_2 12 rfl rfl)
theorem dX7_leaf_58 : decode cX7_leaf 58 = .ok (.aload_n 0, 1) := dk_42 (dk_at dksX7_leaf_2 14 rfl rfl)
theorem dX7_leaf_59 : decode cX7_leaf 59 = .ok (.iconst 0, 1) := dk_3 (dk_at dksX7_leaf_2 15 rfl rfl)
theorem dX7_leaf_60 : decode cX7_leaf 60 = .ok (.sipush 9999, 3) := dk_17 39 15 (dk_at dksX7_leaf_2 16 rfl rfl)
theorem dX7_leaf_63 : decode cX7_leaf 63 = .ok (.invokevirtual 78, 3) := dk_182 0 78 (dk_at dksX7_leaf_2 19 rfl rfl)
theorem dX7_leaf_66 : decode cX7_leaf 66 = .ok (.istore 5, 2) := dk_54 5 (dk_at dksX7_leaf_2 22 rfl rfl)
theorem dX7_leaf_68 : decode cX7_leaf 68 = .ok (.iconst 0, 1) := dk_3 (dk_at dksX7_leaf_3 0 rfl rfl)
theorem dX7_leaf_69 : decode cX7_leaf 69 = .ok (.istore 6, 2) := dk_54 6 (dk_at dksX7_leaf_3 1 rfl rfl)
theorem dX7_leaf_71 : decode cX7_leaf 71 = .ok (.iload_n 1, 1) := dk_27 (dk_at dksX7_leaf_3 3 rfl rfl)
theorem dX7_leaf_72 : decode cX7_leaf 72 = .ok (.iconst 2, 1) := dk_5 (dk_at dksX7_leaf_3 4 rfl rfl)
theorem dX7_leaf_73 : decode cX7_leaf 73 = .ok (.if_icmp .eq 8, 3) := dk_159 0 8 (dk_at dksX7_leaf_3 5 rfl rfl)
theorem dX7_leaf_76 : decode cX7_leaf 76 = .ok (.iload_n 1, 1) := dk_27 (dk_at dksX7_leaf_3 8 rfl rfl)
theorem dX7_leaf_77 : decode cX7_leaf 77 = .ok (.iconst 3, 1) := dk_6 (dk_at dksX7_leaf_3 9 rfl rfl)
theorem dX7_leaf_78 : decode cX7_leaf 78 = .ok (.if_icmp .ne 21, 3) := dk_160 0 21 (dk_at dksX7_leaf_3 10 rfl rfl)
theorem dX7_leaf_81 : decode cX7_leaf 81 = .ok (.aload_n 0, 1) := dk_42 (dk_at dksX7_leaf_3 13 rfl rfl)
theorem dX7_leaf_82 : decode cX7_leaf 82 = .ok (.iconst 1, 1) := dk_4 (dk_at dksX7_leaf_3 14 rfl rfl)
theorem dX7_leaf_83 : decode cX7_leaf 83 = .ok (.getstatic 143, 3) := dk_178 0 143 (dk_at dksX7_leaf_3 15 rfl rfl)
theorem dX7_leaf_86 : decode cX7_leaf 86 = .ok (.invokevirtual 55, 3) := dk_182 0 55 (dk_at dksX7_leaf_3 18 rfl rfl)
theorem dX7_leaf_89 : decode cX7_leaf 89 = .ok (.aload_n 0, 1) := dk_42 (dk_at dksX7_leaf_3 21 rfl rfl)
theorem dX7_leaf_90 : decode cX7_leaf 90 = .ok (.iconst 0, 1) := dk_3 (dk_at dksX7_leaf_3 22 rfl rfl)
theorem dX7_leaf_91 : decode cX7_leaf 91 = .ok (.sipush 9999, 3) := dk_17 39 15 (dk_at dksX7_leaf_4 0 rfl rfl)
theorem dX7_leaf_94 : decode cX7_leaf 94 = .ok (.invokevirtual 78, 3) := dk_182 0 78 (dk_at dksX7_leaf_4 3 rfl rfl)
theorem dX7_leaf_97 : decode cX7_leaf 97 = .ok (.istore 6, 2) := dk_54 6 (dk_at dksX7_leaf_4 6 rfl rfl)
theorem dX7_leaf_99 : decode cX7_leaf 99 = .ok (.aload_n 0, 1) := dk_42 (dk_at dksX7_leaf_4 8 rfl rfl)
theorem dX7_leaf_100 : decode cX7_leaf 100 = .ok (.iconst 1, 1) := dk_4 (dk_at dksX7_leaf_4 9 rfl rfl)
theorem dX7_leaf_101 : decode cX7_leaf 101 = .ok (.getstatic 146, 3) := dk_178 0 146 (dk_at dksX7_leaf_4 10 rfl rfl)
theorem dX7_leaf_104 : decode cX7_leaf 104 = .ok (.invokevirtual 55, 3) := dk_182 0 55 (dk_at dksX7_leaf_4 13 rfl rfl)
theorem dX7_leaf_107 : decode cX7_leaf 107 = .ok (.aload_n 0, 1) := dk_42 (dk_at dksX7_leaf_4 16 rfl rfl)
theorem dX7_leaf_108 : decode cX7_leaf 108 = .ok (.iconst 0, 1) := dk_3 (dk_at dksX7_leaf_4 17 rfl rfl)
theorem dX7_leaf_109 : decode cX7_leaf 109 = .ok (.sipush 399, 3) := dk_17 1 143 (dk_at dksX7_leaf_4 18 rfl rfl)
theorem dX7_leaf_112 : decode cX7_leaf 112 = .ok (.invokevirtual 78, 3) := dk_182 0 78 (dk_at dksX7_leaf_4 21 rfl rfl)
theorem dX7_leaf_115 : decode cX7_leaf 115 = .ok (.istore 7, 2) := dk_54 7 (dk_at dksX7_leaf_5 0 rfl rfl)
theorem dX7_leaf_117 : decode cX7_leaf 117 = .ok (.iload_n 1, 1) := dk_27 (dk_at dksX7_leaf_5 2 rfl rfl)
theorem dX7_leaf_118 : decode cX7_leaf 118 = .ok (.iconst 3, 1) := dk_6 (dk_at dksX7_leaf_5 3 rfl rfl)
theorem dX7_leaf_119 : decode cX7_leaf 119 = .ok (.if_icmp .ne 38, 3) := dk_160 0 38 (dk_at dksX7_leaf_5 4 rfl rfl)
theorem dX7_leaf_122 : decode cX7_leaf 122 = .ok (.aload_n 0, 1) := dk_42 (dk_at dksX7_leaf_5 7 rfl rfl)
theorem dX7_leaf_123 : decode cX7_leaf 123 = .ok (.iconst 1, 1) := dk_4 (dk_at dksX7_leaf_5 8 rfl rfl)
theorem dX7_leaf_124 : decode cX7_leaf 124 = .ok (.getstatic 149, 3) := dk_178 0 149 (dk_at dksX7_leaf_5 9 rfl rfl)
theorem dX7_leaf_127 : decode cX7_leaf 127 = .ok (.invokevirtual 55, 3) := dk_182 0 55 (dk_at dksX7_leaf_5 12 rfl rfl)
theorem dX7_leaf_130 : decode cX7_leaf 130 = .ok (.new 152, 3) := dk_187 0 152 (dk_at dksX7_leaf_5 15 rfl rfl)
theorem dX7_leaf_133 : decode cX7_leaf 133 = .ok (.dup, 1) := dk_89 (dk_at dksX7_leaf_5 18 rfl rfl)
theorem dX7_leaf_134 : decode cX7_leaf 134 = .ok (.iload_n 2, 1) := dk_28 (dk_at dksX7_leaf_5 19 rfl rfl)
theorem dX7_leaf_135 : decode cX7_leaf 135 = .ok (.iload_n 3, 1) := dk_29 (dk_at dksX7_leaf_5 20 rfl rfl)
theorem dX7_leaf_136 : decode cX7_leaf 136 = .ok (.iload 4, 2) := dk_21 4 (dk_at dksX7_leaf_5 21 rfl rfl)
theorem dX7_leaf_138 : decode cX7_leaf 138 = .ok (.iload 5, 2) := dk_21 5 (dk_at dksX7_leaf_6 0 rfl rfl)
theorem dX7_leaf_140 : decode cX7_leaf 140 = .ok (.iload 6, 2) := dk_21 6 (dk_at dksX7_leaf_6 2 rfl rfl)
theorem dX7_leaf_142 : decode cX7_leaf 142 = .ok (.iload 7, 2) := dk_21 7 (dk_at dksX7_leaf_6 4 rfl rfl)
theorem dX7_leaf_144 : decode cX7_leaf 144 = .ok (.aload_n 0, 1) := dk_42 (dk_at dksX7_leaf_6 6 rfl rfl)
theorem dX7_leaf_145 : decode cX7_leaf 145 = .ok (.iload 7, 2) := dk_21 7 (dk_at dksX7_leaf_6 7 rfl rfl)
theorem dX7_leaf_147 : decode cX7_leaf 147 = .ok (.sipush 399, 3) := dk_17 1 143 (dk_at dksX7_leaf_6 9 rfl rfl)
theorem dX7_leaf_150 : decode cX7_leaf 150 = .ok (.invokevirtual 78, 3) := dk_182 0 78 (dk_at dksX7_leaf_6 12 rfl rfl)
theorem dX7_leaf_153 : decode cX7_leaf 153 = .ok (.invokespecial 154, 3) := dk_183 0 154 (dk_at dksX7_leaf_6 15 rfl rfl)
theorem dX7_leaf_156 : decode cX7_leaf 156 = .ok (.areturn, 1) := dk_176 (dk_at dksX7_leaf_6 18 rfl rfl)
theorem dX7_leaf_157 : decode cX7_leaf 157 = .ok (.iload_n 1, 1) := dk_27 (dk_at dksX7_leaf_6 19 rfl rfl)
theorem dX7_leaf_158 : decode cX7_leaf 158 = .ok (.iconst 2, 1) := dk_5 (dk_at dksX7_leaf_6 20 rfl rfl)
theorem dX7_leaf_159 : decode cX7_leaf 159 = .ok (.if_icmp .eq 20, 3) := dk_159 0 20 (dk_at dksX7_leaf_6 21 rfl rfl)
theorem dX7_leaf_162 : decode cX7_leaf 162 = .ok (.new 157, 3) := dk_187 0 157 (dk_at dksX7_leaf_7 0 rfl rfl)
theorem dX7_leaf_165 : decode cX7_leaf 165 = .ok (.dup, 1) := dk_89 (dk_at dksX7_leaf_7 3 rfl rfl)
theorem dX7_leaf_166 : decode cX7_leaf 166 = .ok (.iload_n 1, 1) := dk_27 (dk_at dksX7_leaf_7 4 rfl rfl)
theorem dX7_leaf_167 : decode cX7_leaf 167 = .ok (.iload_n 2, 1) := dk_28 (dk_at dksX7_leaf_7 5 rfl rfl)
theorem dX7_leaf_168 : decode cX7_leaf 168 = .ok (.iload_n 3, 1) := dk_29 (dk_at dksX7_leaf_7 6 rfl rfl)
theorem dX7_leaf_169 : decode cX7_leaf 169 = .ok (.iload 4, 2) := dk_21 4 (dk_at dksX7_leaf_7 7 rfl rfl)
theorem dX7_leaf_171 : decode cX7_leaf 171 = .ok (.iload 5, 2) := dk_21 5 (dk_at dksX7_leaf_7 9 rfl rfl)
theorem dX7_leaf_173 : decode cX7_leaf 173 = .ok (.iload 7, 2) := dk_21 7 (dk_at dksX7_leaf_7 11 rfl rfl)
theorem dX7_leaf_175 : decode cX7_leaf 175 = .ok (.invokespecial 159, 3) := dk_183 0 159 (dk_at dksX7_leaf_7 13 rfl rfl)
theorem dX7_leaf_178 : decode cX7_leaf 178 = .ok (.areturn, 1) := dk_176 (dk_at dksX7_leaf_7 16 rfl rfl)
theorem dX7_leaf_179 : decode cX7_leaf 179 = .ok (.new 162, 3) := dk_187 0 162 (dk_at dksX7_leaf_7 17 rfl rfl)
theorem dX7_leaf_182 : decode cX7_leaf 182 = .ok (.dup, 1) := dk_89 (dk_at dksX7_leaf_7 20 rfl rfl)
theorem dX7_leaf_183 : decode cX7_leaf 183 = .ok (.iload_n 2, 1) := dk_28 (dk_at dksX7_leaf_7 21 rfl rfl)
theorem dX7_leaf_184 : decode cX7_leaf 184 = .ok (.iload_n 3, 1) := dk_29 (dk_at dksX7_leaf_7 22 rfl rfl)
theorem dX7_leaf_185 : decode cX7_leaf 185 = .ok (.iload 4, 2) := dk_21 4 (dk_at dksX7_leaf_8 0 rfl rfl)
theorem dX7_leaf_187 : decode cX7_leaf 187 = .ok (.iload 5, 2) := dk_21 5 (dk_at dksX7_leaf_8 2 rfl rfl)
theorem dX7_leaf_189 : decode cX7_leaf 189 = .ok (.iload 6, 2) := dk_21 6 (dk_at dksX7_leaf_8 4 rfl rfl)
theorem dX7_leaf_191 : decode cX7_leaf 191 = .ok (.iload 7, 2) := dk_21 7 (dk_at dksX7_leaf_8 6 rfl rfl)
theorem dX7_leaf_193 : decode cX7_leaf 193 = .ok (.aload_n 0, 1) := dk_42 (dk_at dksX7_leaf_8 8 rfl rfl)
theorem dX7_leaf_194 : decode cX7_leaf 194 = .ok (.iconst 1, 1) := dk_4 (dk_at dksX7_leaf_8 9 rfl rfl)
theorem dX7_leaf_195 : decode cX7_leaf 195 = .ok (.getstatic 164, 3) := dk_178 0 164 (dk_at dksX7_leaf_8 10 rfl rfl)
theorem dX7_leaf_198 : decode cX7_leaf 198 = .ok (.invokevirtual 38, 3) := dk_182 0 38 (dk_at dksX7_leaf_8 13 rfl rfl)
theorem dX7_leaf_201 : decode cX7_leaf 201 = .ok (.ifCond .eq 15, 3) := dk_153 0 15 (dk_at dksX7_leaf_8 16 rfl rfl)
theorem dX7_leaf_204 : decode cX7_leaf 204 = .ok (.aload_n 0, 1) := dk_42 (dk_at dksX7_leaf_8 19 rfl rfl)
theorem dX7_leaf_205 : decode cX7_leaf 205 = .ok (.iload 7, 2) := dk_21 7 (dk_at dksX7_leaf_8 20 rfl rfl)
theorem dX7_leaf_207 : decode cX7_leaf 207 = .ok (.sipush 399, 3) := dk_17 1 143 (dk_at dksX7_leaf_9 0 rfl rfl)
theorem dX7_leaf_210 : decode cX7_leaf 210 = .ok (.invokevirtual 78, 3) := dk_182 0 78 (dk_at dksX7_leaf_9 3 rfl rfl)
theorem dX7_leaf_213 : decode cX7_leaf 213 = .ok (.goto 5, 3) := dk_167 0 5 (dk_at dksX7_leaf_9 6 rfl rfl)
theorem dX7_leaf_216 : decode cX7_leaf 216 = .ok (.iload 7, 2) := dk_21 7 (dk_at dksX7_leaf_9 9 rfl rfl)
theorem dX7_leaf_218 : decode cX7_leaf 218 = .ok (.invokespecial 167, 3) := dk_183 0 167 (dk_at dksX7_leaf_9 11 rfl rfl)
theorem dX7_leaf_221 : decode cX7_leaf 221 = .ok (.areturn, 1) := dk_176 (dk_at dksX7_leaf_9 14 rfl rfl)
abbrev cX7_inner : ByteArray := prog_7_method_4_code
def yX7_inner : MethodName := ⟨RX7, "inner", "()LLoanNames$All;"⟩
def dkwX7_inner_2 : List UInt8 := [42, 6, 20, 0, 53, 182, 0, 55, 42, 89, 180, 0, 47, 4, 100, 181, 0, 47, 43, 176]
abbrev dktX7_inner_2 : List UInt8 := dkwX7_inner_2 ++ []
def dkwX7_inner_1 : List UInt8 := [181, 0, 15, 1, 176, 42, 89, 180, 0, 47, 4, 96, 181, 0, 47, 42, 182, 0, 50, 42, 182, 0, 9, 76]
abbrev dktX7_inner_1 : List UInt8 := dkwX7_inner_1 ++ dktX7_inner_2
def dkwX7_inner_0 : List UInt8 := [42, 6, 20, 0, 42, 182, 0, 44, 153, 0, 12, 42, 180, 0, 47, 16, 6, 160, 0, 10, 42, 4]
abbrev dktX7_inner_0 : List UInt8 := dkwX7_inner_0 ++ dktX7_inner_1
theorem dksX7_inner_0 : cX7_inner.data.toList.drop 0 = dktX7_inner_0 := by decide +kernel
theorem dksX7_inner_1 : cX7_inner.data.toList.drop 22 = dktX7_inner_1 := dk_seg dksX7_inner_0 22 rfl rfl
theorem dksX7_inner_2 : cX7_inner.data.toList.drop 46 = dktX7_inner_2 := dk_seg dksX7_inner_1 24 rfl rfl
theorem dX7_inner_0 : decode cX7_inner 0 = .ok (.aload_n 0, 1) := dk_42 (dk_at dksX7_inner_0 0 rfl rfl)
theorem dX7_inner_1 : decode cX7_inner 1 = .ok (.iconst 3, 1) := dk_6 (dk_at dksX7_inner_0 1 rfl rfl)
theorem dX7_inner_2 : decode cX7_inner 2 = .ok (.ldc2_w 42, 3) := dk_20 0 42 (dk_at dksX7_inner_0 2 rfl rfl)
theorem dX7_inner_5 : decode cX7_inner 5 = .ok (.invokevirtual 44, 3) := dk_182 0 44 (dk_at dksX7_inner_0 5 rfl rfl)
theorem dX7_inner_8 : decode cX7_inner 8 = .ok (.ifCond .eq 12, 3) := dk_153 0 12 (dk_at dksX7_inner_0 8 rfl rfl)
theorem dX7_inner_11 : decode cX7_inner 11 = .ok (.aload_n 0, 1) := dk_42 (dk_at dksX7_inner_0 11 rfl rfl)
theorem dX7_inner_12 : decode cX7_inner 12 = .ok (.getfield 47, 3) := dk_180 0 47 (dk_at dksX7_inner_0 12 rfl rfl)
theorem dX7_inner_15 : decode cX7_inner 15 = .ok (.bipush 6, 2) := dk_16 6 (dk_at dksX7_inner_0 15 rfl rfl)
theorem dX7_inner_17 : decode cX7_inner 17 = .ok (.if_icmp .ne 10, 3) := dk_160 0 10 (dk_at dksX7_inner_0 17 rfl rfl)
theorem dX7_inner_20 : decode cX7_inner 20 = .ok (.aload_n 0, 1) := dk_42 (dk_at dksX7_inner_0 20 rfl rfl)
theorem dX7_inner_21 : decode cX7_inner 21 = .ok (.iconst 1, 1) := dk_4 (dk_at dksX7_inner_0 21 rfl rfl)
theorem dX7_inner_22 : decode cX7_inner 22 = .ok (.putfield 15, 3) := dk_181 0 15 (dk_at dksX7_inner_1 0 rfl rfl)
theorem dX7_inner_25 : decode cX7_inner 25 = .ok (.aconst_null, 1) := dk_1 (dk_at dksX7_inner_1 3 rfl rfl)
theorem dX7_inner_26 : decode cX7_inner 26 = .ok (.areturn, 1) := dk_176 (dk_at dksX7_inner_1 4 rfl rfl)
theorem dX7_inner_27 : decode cX7_inner 27 = .ok (.aload_n 0, 1) := dk_42 (dk_at dksX7_inner_1 5 rfl rfl)
theorem dX7_inner_28 : decode cX7_inner 28 = .ok (.dup, 1) := dk_89 (dk_at dksX7_inner_1 6 rfl rfl)
theorem dX7_inner_29 : decode cX7_inner 29 = .ok (.getfield 47, 3) := dk_180 0 47 (dk_at dksX7_inner_1 7 rfl rfl)
theorem dX7_inner_32 : decode cX7_inner 32 = .ok (.iconst 1, 1) := dk_4 (dk_at dksX7_inner_1 10 rfl rfl)
theorem dX7_inner_33 : decode cX7_inner 33 = .ok (.iadd, 1) := dk_96 (dk_at dksX7_inner_1 11 rfl rfl)
theorem dX7_inner_34 : decode cX7_inner 34 = .ok (.putfield 47, 3) := dk_181 0 47 (dk_at dksX7_inner_1 12 rfl rfl)
theorem dX7_inner_37 : decode cX7_inner 37 = .ok (.aload_n 0, 1) := dk_42 (dk_at dksX7_inner_1 15 rfl rfl)
theorem dX7_inner_38 : decode cX7_inner 38 = .ok (.invokevirtual 50, 3) := dk_182 0 50 (dk_at dksX7_inner_1 16 rfl rfl)
theorem dX7_inner_41 : decode cX7_inner 41 = .ok (.aload_n 0, 1) := dk_42 (dk_at dksX7_inner_1 19 rfl rfl)
theorem dX7_inner_42 : decode cX7_inner 42 = .ok (.invokevirtual 9, 3) := dk_182 0 9 (dk_at dksX7_inner_1 20 rfl rfl)
theorem dX7_inner_45 : decode cX7_inner 45 = .ok (.astore_n 1, 1) := dk_76 (dk_at dksX7_inner_1 23 rfl rfl)
theorem dX7_inner_46 : decode cX7_inner 46 = .ok (.aload_n 0, 1) := dk_42 (dk_at dksX7_inner_2 0 rfl rfl)
theorem dX7_inner_47 : decode cX7_inner 47 = .ok (.iconst 3, 1) := dk_6 (dk_at dksX7_inner_2 1 rfl rfl)
theorem dX7_inner_48 : decode cX7_inner 48 = .ok (.ldc2_w 53, 3) := dk_20 0 53 (dk_at dksX7_inner_2 2 rfl rfl)
theorem dX7_inner_51 : decode cX7_inner 51 = .ok (.invokevirtual 55, 3) := dk_182 0 55 (dk_at dksX7_inner_2 5 rfl rfl)
theorem dX7_inner_54 : decode cX7_inner 54 = .ok (.aload_n 0, 1) := dk_42 (dk_at dksX7_inner_2 8 rfl rfl)
theorem dX7_inner_55 : decode cX7_inner 55 = .ok (.dup, 1) := dk_89 (dk_at dksX7_inner_2 9 rfl rfl)
theorem dX7_inner_56 : decode cX7_inner 56 = .ok (.getfield 47, 3) := dk_180 0 47 (dk_at dksX7_inner_2 10 rfl rfl)
theorem dX7_inner_59 : decode cX7_inner 59 = .ok (.iconst 1, 1) := dk_4 (dk_at dksX7_inner_2 13 rfl rfl)
theorem dX7_inner_60 : decode cX7_inner 60 = .ok (.isub, 1) := dk_100 (dk_at dksX7_inner_2 14 rfl rfl)
theorem dX7_inner_61 : decode cX7_inner 61 = .ok (.putfield 47, 3) := dk_181 0 47 (dk_at dksX7_inner_2 15 rfl rfl)
theorem dX7_inner_64 : decode cX7_inner 64 = .ok (.aload_n 1, 1) := dk_43 (dk_at dksX7_inner_2 18 rfl rfl)
theorem dX7_inner_65 : decode cX7_inner 65 = .ok (.areturn, 1) := dk_176 (dk_at dksX7_inner_2 19 rfl rfl)
abbrev cX7_choice : ByteArray := prog_7_method_6_code
def yX7_choice : MethodName := ⟨RX7, "choice", "()LLoanNames$Part;"⟩
def dkwX7_choice_4 : List UInt8 := [183, 0, 134, 176]
abbrev dktX7_choice_4 : List UInt8 := dkwX7_choice_4 ++ []
def dkwX7_choice_3 : List UInt8 := [178, 0, 131, 182, 0, 38, 153, 0, 10, 42, 182, 0, 84, 167, 0, 10, 187, 0, 23, 89, 183, 0, 25]
abbrev dktX7_choice_3 : List UInt8 := dkwX7_choice_3 ++ dktX7_choice_4
def dkwX7_choice_2 : List UInt8 := [178, 0, 126, 2, 182, 0, 102, 61, 42, 182, 0, 84, 78, 187, 0, 129, 89, 28, 27, 45, 42, 4]
abbrev dktX7_choice_2 : List UInt8 := dkwX7_choice_2 ++ dktX7_choice_3
def dkwX7_choice_1 : List UInt8 := [1, 176, 42, 182, 0, 50, 42, 180, 0, 123, 60, 42, 89, 180, 0, 123, 4, 96, 181, 0, 123, 42]
abbrev dktX7_choice_1 : List UInt8 := dkwX7_choice_1 ++ dktX7_choice_2
def dkwX7_choice_0 : List UInt8 := [42, 4, 178, 0, 120, 182, 0, 44, 153, 0, 11, 42, 180, 0, 123, 6, 160, 0, 10, 42, 4, 181, 0, 15]
abbrev dktX7_choice_0 : List UInt8 := dkwX7_choice_0 ++ dktX7_choice_1
theorem dksX7_choice_0 : cX7_choice.data.toList.drop 0 = dktX7_choice_0 := by decide +kernel
theorem dksX7_choice_1 : cX7_choice.data.toList.drop 24 = dktX7_choice_1 := dk_seg dksX7_choice_0 24 rfl rfl
theorem dksX7_choice_2 : cX7_choice.data.toList.drop 46 = dktX7_choice_2 := dk_seg dksX7_choice_1 22 rfl rfl
theorem dksX7_choice_3 : cX7_choice.data.toList.drop 68 = dktX7_choice_3 := dk_seg dksX7_choice_2 22 rfl rfl
theorem dksX7_choice_4 : cX7_choice.data.toList.drop 91 = dktX7_choice_4 := dk_seg dksX7_choice_3 23 rfl rfl
theorem dX7_choice_0 : decode cX7_choice 0 = .ok (.aload_n 0, 1) := dk_42 (dk_at dksX7_choice_0 0 rfl rfl)
theorem dX7_choice_1 : decode cX7_choice 1 = .ok (.iconst 1, 1) := dk_4 (dk_at dksX7_choice_0 1 rfl rfl)
theorem dX7_choice_2 : decode cX7_choice 2 = .ok (.getstatic 120, 3) := dk_178 0 120 (dk_at dksX7_choice_0 2 rfl rfl)
theorem dX7_choice_5 : decode cX7_choice 5 = .ok (.invokevirtual 44, 3) := dk_182 0 44 (dk_at dksX7_choice_0 5 rfl rfl)
theorem dX7_choice_8 : decode cX7_choice 8 = .ok (.ifCond .eq 11, 3) := dk_153 0 11 (dk_at dksX7_choice_0 8 rfl rfl)
theorem dX7_choice_11 : decode cX7_choice 11 = .ok (.aload_n 0, 1) := dk_42 (dk_at dksX7_choice_0 11 rfl rfl)
theorem dX7_choice_12 : decode cX7_choice 12 = .ok (.getfield 123, 3) := dk_180 0 123 (dk_at dksX7_choice_0 12 rfl rfl)
theorem dX7_choice_15 : decode cX7_choice 15 = .ok (.iconst 3, 1) := dk_6 (dk_at dksX7_choice_0 15 rfl rfl)
theorem dX7_choice_16 : decode cX7_choice 16 = .ok (.if_icmp .ne 10, 3) := dk_160 0 10 (dk_at dksX7_choice_0 16 rfl rfl)
theorem dX7_choice_19 : decode cX7_choice 19 = .ok (.aload_n 0, 1) := dk_42 (dk_at dksX7_choice_0 19 rfl rfl)
theorem dX7_choice_20 : decode cX7_choice 20 = .ok (.iconst 1, 1) := dk_4 (dk_at dksX7_choice_0 20 rfl rfl)
theorem dX7_choice_21 : decode cX7_choice 21 = .ok (.putfield 15, 3) := dk_181 0 15 (dk_at dksX7_choice_0 21 rfl rfl)
theorem dX7_choice_24 : decode cX7_choice 24 = .ok (.aconst_null, 1) := dk_1 (dk_at dksX7_choice_1 0 rfl rfl)
theorem dX7_choice_25 : decode cX7_choice 25 = .ok (.areturn, 1) := dk_176 (dk_at dksX7_choice_1 1 rfl rfl)
theorem dX7_choice_26 : decode cX7_choice 26 = .ok (.aload_n 0, 1) := dk_42 (dk_at dksX7_choice_1 2 rfl rfl)
theorem dX7_choice_27 : decode cX7_choice 27 = .ok (.invokevirtual 50, 3) := dk_182 0 50 (dk_at dksX7_choice_1 3 rfl rfl)
theorem dX7_choice_30 : decode cX7_choice 30 = .ok (.aload_n 0, 1) := dk_42 (dk_at dksX7_choice_1 6 rfl rfl)
theorem dX7_choice_31 : decode cX7_choice 31 = .ok (.getfield 123, 3) := dk_180 0 123 (dk_at dksX7_choice_1 7 rfl rfl)
theorem dX7_choice_34 : decode cX7_choice 34 = .ok (.istore_n 1, 1) := dk_60 (dk_at dksX7_choice_1 10 rfl rfl)
theorem dX7_choice_35 : decode cX7_choice 35 = .ok (.aload_n 0, 1) := dk_42 (dk_at dksX7_choice_1 11 rfl rfl)
theorem dX7_choice_36 : decode cX7_choice 36 = .ok (.dup, 1) := dk_89 (dk_at dksX7_choice_1 12 rfl rfl)
theorem dX7_choice_37 : decode cX7_choice 37 = .ok (.getfield 123, 3) := dk_180 0 123 (dk_at dksX7_choice_1 13 rfl rfl)
theorem dX7_choice_40 : decode cX7_choice 40 = .ok (.iconst 1, 1) := dk_4 (dk_at dksX7_choice_1 16 rfl rfl)
theorem dX7_choice_41 : decode cX7_choice 41 = .ok (.iadd, 1) := dk_96 (dk_at dksX7_choice_1 17 rfl rfl)
theorem dX7_choice_42 : decode cX7_choice 42 = .ok (.putfield 123, 3) := dk_181 0 123 (dk_at dksX7_choice_1 18 rfl rfl)
theorem dX7_choice_45 : decode cX7_choice 45 = .ok (.aload_n 0, 1) := dk_42 (dk_at dksX7_choice_1 21 rfl rfl)
theorem dX7_choice_46 : decode cX7_choice 46 = .ok (.getstatic 126, 3) := dk_178 0 126 (dk_at dksX7_choice_2 0 rfl rfl)
theorem dX7_choice_49 : decode cX7_choice 49 = .ok (.iconst (-1), 1) := dk_2 (dk_at dksX7_choice_2 3 rfl rfl)
theorem dX7_choice_50 : decode cX7_choice 50 = .ok (.invokevirtual 102, 3) := dk_182 0 102 (dk_at dksX7_choice_2 4 rfl rfl)
theorem dX7_choice_53 : decode cX7_choice 53 = .ok (.istore_n 2, 1) := dk_61 (dk_at dksX7_choice_2 7 rfl rfl)
theorem dX7_choice_54 : decode cX7_choice 54 = .ok (.aload_n 0, 1) := dk_42 (dk_at dksX7_choice_2 8 rfl rfl)
theorem dX7_choice_55 : decode cX7_choice 55 = .ok (.invokevirtual 84, 3) := dk_182 0 84 (dk_at dksX7_choice_2 9 rfl rfl)
theorem dX7_choice_58 : decode cX7_choice 58 = .ok (.astore_n 3, 1) := dk_78 (dk_at dksX7_choice_2 12 rfl rfl)
theorem dX7_choice_59 : decode cX7_choice 59 = .ok (.new 129, 3) := dk_187 0 129 (dk_at dksX7_choice_2 13 rfl rfl)
theorem dX7_choice_62 : decode cX7_choice 62 = .ok (.dup, 1) := dk_89 (dk_at dksX7_choice_2 16 rfl rfl)
theorem dX7_choice_63 : decode cX7_choice 63 = .ok (.iload_n 2, 1) := dk_28 (dk_at dksX7_choice_2 17 rfl rfl)
theorem dX7_choice_64 : decode cX7_choice 64 = .ok (.iload_n 1, 1) := dk_27 (dk_at dksX7_choice_2 18 rfl rfl)
theorem dX7_choice_65 : decode cX7_choice 65 = .ok (.aload_n 3, 1) := dk_45 (dk_at dksX7_choice_2 19 rfl rfl)
theorem dX7_choice_66 : decode cX7_choice 66 = .ok (.aload_n 0, 1) := dk_42 (dk_at dksX7_choice_2 20 rfl rfl)
theorem dX7_choice_67 : decode cX7_choice 67 = .ok (.iconst 1, 1) := dk_4 (dk_at dksX7_choice_2 21 rfl rfl)
theorem dX7_choice_68 : decode cX7_choice 68 = .ok (.getstatic 131, 3) := dk_178 0 131 (dk_at dksX7_choice_3 0 rfl rfl)
theorem dX7_choice_71 : decode cX7_choice 71 = .ok (.invokevirtual 38, 3) := dk_182 0 38 (dk_at dksX7_choice_3 3 rfl rfl)
theorem dX7_choice_74 : decode cX7_choice 74 = .ok (.ifCond .eq 10, 3) := dk_153 0 10 (dk_at dksX7_choice_3 6 rfl rfl)
theorem dX7_choice_77 : decode cX7_choice 77 = .ok (.aload_n 0, 1) := dk_42 (dk_at dksX7_choice_3 9 rfl rfl)
theorem dX7_choice_78 : decode cX7_choice 78 = .ok (.invokevirtual 84, 3) := dk_182 0 84 (dk_at dksX7_choice_3 10 rfl rfl)
theorem dX7_choice_81 : decode cX7_choice 81 = .ok (.goto 10, 3) := dk_167 0 10 (dk_at dksX7_choice_3 13 rfl rfl)
theorem dX7_choice_84 : decode cX7_choice 84 = .ok (.new 23, 3) := dk_187 0 23 (dk_at dksX7_choice_3 16 rfl rfl)
theorem dX7_choice_87 : decode cX7_choice 87 = .ok (.dup, 1) := dk_89 (dk_at dksX7_choice_3 19 rfl rfl)
theorem dX7_choice_88 : decode cX7_choice 88 = .ok (.invokespecial 25, 3) := dk_183 0 25 (dk_at dksX7_choice_3 20 rfl rfl)
theorem dX7_choice_91 : decode cX7_choice 91 = .ok (.invokespecial 134, 3) := dk_183 0 134 (dk_at dksX7_choice_4 0 rfl rfl)
theorem dX7_choice_94 : decode cX7_choice 94 = .ok (.areturn, 1) := dk_176 (dk_at dksX7_choice_4 3 rfl rfl)
theorem q98 : (Jvm.Cond.initialized "LoanNames$DealReader") ∈ lw_all := lw_g (lw_at lw_m1 8 rfl) rfl
theorem q335 : (Jvm.Cond.instantiable "LoanNames$DealReader" (11 : Nat)) ∈ lw_all := lw_g (lw_at lw_m2 5 rfl) rfl
theorem q337 : (Jvm.Cond.instanceMethod ({ cls := "LoanNames$DealReader", name := "<init>", desc := "([BI)V" } : Jvm.MethodName)) ∈ lw_all := lw_g (lw_at lw_m2 7 rfl) rfl
theorem q338 : (Jvm.Cond.code ({ cls := "LoanNames$DealReader", name := "<init>", desc := "([BI)V" } : Jvm.MethodName) prog_7_method_1_code (3 : Nat) (Option.none : Option Jvm.ClassFile.FieldType)) ∈ lw_all := lw_g (lw_at lw_m2 8 rfl) rfl
theorem q339 : (Jvm.Cond.methodLink "LoanNames$DealReader" (3 : Nat) ({ cls := "LoanNames$Reader", name := "<init>", desc := "([BI)V" } : Jvm.MethodName)) ∈ lw_all := lw_g (lw_at lw_m2 9 rfl) rfl
theorem q359 : (Jvm.Cond.fieldLink "LoanNames$DealReader" (137 : Nat) "LoanNames$DealReader" "leaves" "I") ∈ lw_all := lw_g (lw_at lw_m2 29 rfl) rfl
theorem q360 : (Jvm.Cond.fieldLink "LoanNames$DealReader" (123 : Nat) "LoanNames$DealReader" "choices" "I") ∈ lw_all := lw_g (lw_at lw_m2 30 rfl) rfl
theorem q362 : (Jvm.Cond.fieldLink "LoanNames$DealReader" (106 : Nat) "LoanNames$DealReader" "events" "I") ∈ lw_all := lw_g (lw_at lw_m2 32 rfl) rfl
theorem q364 : (Jvm.Cond.fieldLink "LoanNames$DealReader" (47 : Nat) "LoanNames$DealReader" "deep" "I") ∈ lw_all := lw_g (lw_at lw_m2 34 rfl) rfl
theorem q371 : (Jvm.Cond.fieldLink "LoanNames$DealReader" (19 : Nat) "LoanNames$DealReader" "kind" "I") ∈ lw_all := lw_g (lw_at lw_m2 41 rfl) rfl
theorem q372 : (Jvm.Cond.sameField "LoanNames$DealReader" "LoanNames$Reader" "kind" "I") ∈ lw_all := lw_g (lw_at lw_m2 42 rfl) rfl
theorem q377 : (Jvm.Cond.fieldLink "LoanNames$DealReader" (63 : Nat) "LoanNames$DealReader" "word" "J") ∈ lw_all := lw_g (lw_at lw_m2 47 rfl) rfl
theorem q378 : (Jvm.Cond.sameField "LoanNames$DealReader" "LoanNames$Reader" "word" "J") ∈ lw_all := lw_g (lw_at lw_m2 48 rfl) rfl
theorem q381 : (Jvm.Cond.fieldLink "LoanNames$DealReader" (15 : Nat) "LoanNames$DealReader" "wrong" "Z") ∈ lw_all := lw_g (lw_at lw_m2 51 rfl) rfl
theorem q382 : (Jvm.Cond.sameField "LoanNames$DealReader" "LoanNames$Reader" "wrong" "Z") ∈ lw_all := lw_g (lw_at lw_m2 52 rfl) rfl
theorem q384 : (Jvm.Cond.lays "LoanNames$DealReader" "LoanNames$DealReader" "leaves" "I") ∈ lw_all := lw_g (lw_at lw_m2 54 rfl) rfl
theorem q385 : (Jvm.Cond.soleField "LoanNames$DealReader" "leaves") ∈ lw_all := lw_g (lw_at lw_m2 55 rfl) rfl
theorem q386 : (Jvm.Cond.lays "LoanNames$DealReader" "LoanNames$DealReader" "choices" "I") ∈ lw_all := lw_g (lw_at lw_m2 56 rfl) rfl
theorem q387 : (Jvm.Cond.soleField "LoanNames$DealReader" "choices") ∈ lw_all := lw_g (lw_at lw_m2 57 rfl) rfl
theorem q388 : (Jvm.Cond.lays "LoanNames$DealReader" "LoanNames$DealReader" "events" "I") ∈ lw_all := lw_g (lw_at lw_m2 58 rfl) rfl
theorem q389 : (Jvm.Cond.soleField "LoanNames$DealReader" "events") ∈ lw_all := lw_g (lw_at lw_m2 59 rfl) rfl
theorem q390 : (Jvm.Cond.lays "LoanNames$DealReader" "LoanNames$DealReader" "deep" "I") ∈ lw_all := lw_g (lw_at lw_m2 60 rfl) rfl
theorem q391 : (Jvm.Cond.soleField "LoanNames$DealReader" "deep") ∈ lw_all := lw_g (lw_at lw_m2 61 rfl) rfl
theorem q392 : (Jvm.Cond.laysFinal "LoanNames$DealReader" "LoanNames$Reader" "text" "[B") ∈ lw_all := lw_g (lw_at lw_m2 62 rfl) rfl
theorem q394 : (Jvm.Cond.laysFinal "LoanNames$DealReader" "LoanNames$Reader" "size" "I") ∈ lw_all := lw_g (lw_at lw_m2 64 rfl) rfl
theorem q396 : (Jvm.Cond.lays "LoanNames$DealReader" "LoanNames$Reader" "at" "I") ∈ lw_all := lw_g (lw_at lw_m2 66 rfl) rfl
theorem q398 : (Jvm.Cond.lays "LoanNames$DealReader" "LoanNames$Reader" "end" "I") ∈ lw_all := lw_g (lw_at lw_m2 68 rfl) rfl
theorem q400 : (Jvm.Cond.lays "LoanNames$DealReader" "LoanNames$Reader" "kind" "I") ∈ lw_all := lw_g (lw_at lw_m2 70 rfl) rfl
theorem q402 : (Jvm.Cond.lays "LoanNames$DealReader" "LoanNames$Reader" "word" "J") ∈ lw_all := lw_g (lw_at lw_m2 72 rfl) rfl
theorem q404 : (Jvm.Cond.lays "LoanNames$DealReader" "LoanNames$Reader" "wrong" "Z") ∈ lw_all := lw_g (lw_at lw_m2 74 rfl) rfl
theorem q406 : (Jvm.Cond.superclass "LoanNames$DealReader" "LoanNames$Reader") ∈ lw_all := lw_g (lw_at lw_m2 76 rfl) rfl
theorem q408 : (Jvm.Cond.instanceMethod ({ cls := "LoanNames$DealReader", name := "reads", desc := "()LLoanNames$All;" } : Jvm.MethodName)) ∈ lw_all := lw_g (lw_at lw_m2 78 rfl) rfl
theorem q409 : (Jvm.Cond.selects "LoanNames$DealReader" ({ cls := "LoanNames$DealReader", name := "reads", desc := "()LLoanNames$All;" } : Jvm.MethodName) ({ cls := "LoanNames$DealReader", name := "reads", desc := "()LLoanNames$All;" } : Jvm.MethodName)) ∈ lw_all := lw_g (lw_at lw_m2 79 rfl) rfl
theorem q410 : (Jvm.Cond.code ({ cls := "LoanNames$DealReader", name := "reads", desc := "()LLoanNames$All;" } : Jvm.MethodName) prog_7_method_2_code (2 : Nat) (Option.some (Jvm.ClassFile.FieldType.object "LoanNames$All"))) ∈ lw_all := lw_g (lw_at lw_m2 80 rfl) rfl
theorem q411 : (Jvm.Cond.methodLink "LoanNames$DealReader" (9 : Nat) ({ cls := "LoanNames$DealReader", name := "all", desc := "()LLoanNames$All;" } : Jvm.MethodName)) ∈ lw_all := lw_g (lw_at lw_m2 81 rfl) rfl
theorem q412 : (Jvm.Cond.privateMethod ({ cls := "LoanNames$DealReader", name := "all", desc := "()LLoanNames$All;" } : Jvm.MethodName)) ∈ lw_tbl := lw_at lw_m2 82 rfl
theorem q413 : (Jvm.Cond.instanceMethod ({ cls := "LoanNames$DealReader", name := "all", desc := "()LLoanNames$All;" } : Jvm.MethodName)) ∈ lw_all := lw_g (lw_at lw_m2 83 rfl) rfl
theorem q414 : (Jvm.Cond.code ({ cls := "LoanNames$DealReader", name := "all", desc := "()LLoanNames$All;" } : Jvm.MethodName) prog_7_method_3_code (2 : Nat) (Option.some (Jvm.ClassFile.FieldType.object "LoanNames$All"))) ∈ lw_all := lw_g (lw_at lw_m2 84 rfl) rfl
theorem q415 : (Jvm.Cond.classLink "LoanNames$DealReader" (23 : Nat) "LoanNames$All") ∈ lw_all := lw_g (lw_at lw_m2 85 rfl) rfl
theorem q417 : (Jvm.Cond.methodLinkNest "LoanNames$DealReader" (25 : Nat) ({ cls := "LoanNames$All", name := "<init>", desc := "()V" } : Jvm.MethodName) "LoanNames") ∈ lw_tbl := lw_at lw_m2 87 rfl
theorem q433 : (Jvm.Cond.methodLink "LoanNames$DealReader" (28 : Nat) ({ cls := "LoanNames$DealReader", name := "part", desc := "()LLoanNames$Part;" } : Jvm.MethodName)) ∈ lw_all := lw_g (lw_at lw_m2 103 rfl) rfl
theorem q434 : (Jvm.Cond.privateMethod ({ cls := "LoanNames$DealReader", name := "part", desc := "()LLoanNames$Part;" } : Jvm.MethodName)) ∈ lw_tbl := lw_at lw_m2 104 rfl
theorem q435 : (Jvm.Cond.instanceMethod ({ cls := "LoanNames$DealReader", name := "part", desc := "()LLoanNames$Part;" } : Jvm.MethodName)) ∈ lw_all := lw_g (lw_at lw_m2 105 rfl) rfl
theorem q436 : (Jvm.Cond.code ({ cls := "LoanNames$DealReader", name := "part", desc := "()LLoanNames$Part;" } : Jvm.MethodName) prog_7_method_5_code (4 : Nat) (Option.some (Jvm.ClassFile.FieldType.object "LoanNames$Part"))) ∈ lw_all := lw_g (lw_at lw_m2 106 rfl) rfl
theorem q437 : (Jvm.Cond.fieldLinkNest "LoanNames$DealReader" (59 : Nat) "LoanNames" "FORM_NAMES" "[J" "LoanNames") ∈ lw_tbl := lw_at lw_m2 107 rfl
theorem q439 : (Jvm.Cond.methodLinkNest "LoanNames$DealReader" (67 : Nat) ({ cls := "LoanNames", name := "find", desc := "([JJ)I" } : Jvm.MethodName) "LoanNames") ∈ lw_tbl := lw_at lw_m2 109 rfl
theorem q442 : (Jvm.Cond.methodLink "LoanNames$DealReader" (71 : Nat) ({ cls := "LoanNames$DealReader", name := "leaf", desc := "(I)LLoanNames$Part;" } : Jvm.MethodName)) ∈ lw_all := lw_g (lw_at lw_m2 112 rfl) rfl
theorem q443 : (Jvm.Cond.privateMethod ({ cls := "LoanNames$DealReader", name := "leaf", desc := "(I)LLoanNames$Part;" } : Jvm.MethodName)) ∈ lw_tbl := lw_at lw_m2 113 rfl
theorem q444 : (Jvm.Cond.instanceMethod ({ cls := "LoanNames$DealReader", name := "leaf", desc := "(I)LLoanNames$Part;" } : Jvm.MethodName)) ∈ lw_all := lw_g (lw_at lw_m2 114 rfl) rfl
theorem q445 : (Jvm.Cond.code ({ cls := "LoanNames$DealReader", name := "leaf", desc := "(I)LLoanNames$Part;" } : Jvm.MethodName) prog_7_method_7_code (8 : Nat) (Option.some (Jvm.ClassFile.FieldType.object "LoanNames$Part"))) ∈ lw_all := lw_g (lw_at lw_m2 115 rfl) rfl
theorem q446 : (Jvm.Cond.methodLink "LoanNames$DealReader" (50 : Nat) ({ cls := "LoanNames$DealReader", name := "pass", desc := "()V" } : Jvm.MethodName)) ∈ lw_all := lw_g (lw_at lw_m2 116 rfl) rfl
theorem q447 : (Jvm.Cond.sameMethod "LoanNames$DealReader" "LoanNames$Reader" "pass" "()V") ∈ lw_all := lw_g (lw_at lw_m2 117 rfl) rfl
theorem q449 : (Jvm.Cond.selects "LoanNames$DealReader" ({ cls := "LoanNames$DealReader", name := "pass", desc := "()V" } : Jvm.MethodName) ({ cls := "LoanNames$Reader", name := "pass", desc := "()V" } : Jvm.MethodName)) ∈ lw_all := lw_g (lw_at lw_m2 119 rfl) rfl
theorem q452 : (Jvm.Cond.fieldLinkNest "LoanNames$DealReader" (126 : Nat) "LoanNames" "HAND_NAMES" "[J" "LoanNames") ∈ lw_tbl := lw_at lw_m2 122 rfl
theorem q454 : (Jvm.Cond.methodLink "LoanNames$DealReader" (102 : Nat) ({ cls := "LoanNames$DealReader", name := "name", desc := "([JI)I" } : Jvm.MethodName)) ∈ lw_all := lw_g (lw_at lw_m2 124 rfl) rfl
theorem q455 : (Jvm.Cond.sameMethod "LoanNames$DealReader" "LoanNames$Reader" "name" "([JI)I") ∈ lw_all := lw_g (lw_at lw_m2 125 rfl) rfl
theorem q457 : (Jvm.Cond.selects "LoanNames$DealReader" ({ cls := "LoanNames$DealReader", name := "name", desc := "([JI)I" } : Jvm.MethodName) ({ cls := "LoanNames$Reader", name := "name", desc := "([JI)I" } : Jvm.MethodName)) ∈ lw_all := lw_g (lw_at lw_m2 127 rfl) rfl
theorem q462 : (Jvm.Cond.fieldLinkNest "LoanNames$DealReader" (140 : Nat) "LoanNames" "THING_NAMES" "[J" "LoanNames") ∈ lw_tbl := lw_at lw_m2 132 rfl
theorem q464 : (Jvm.Cond.methodLink "LoanNames$DealReader" (78 : Nat) ({ cls := "LoanNames$DealReader", name := "number", desc := "(II)I" } : Jvm.MethodName)) ∈ lw_all := lw_g (lw_at lw_m2 134 rfl) rfl
theorem q465 : (Jvm.Cond.sameMethod "LoanNames$DealReader" "LoanNames$Reader" "number" "(II)I") ∈ lw_all := lw_g (lw_at lw_m2 135 rfl) rfl
theorem q467 : (Jvm.Cond.selects "LoanNames$DealReader" ({ cls := "LoanNames$DealReader", name := "number", desc := "(II)I" } : Jvm.MethodName) ({ cls := "LoanNames$Reader", name := "number", desc := "(II)I" } : Jvm.MethodName)) ∈ lw_all := lw_g (lw_at lw_m2 137 rfl) rfl
theorem q471 : (Jvm.Cond.fieldLinkNest "LoanNames$DealReader" (143 : Nat) "LoanNames" "FOR" "J" "LoanNames") ∈ lw_tbl := lw_at lw_m2 141 rfl
theorem q473 : (Jvm.Cond.methodLink "LoanNames$DealReader" (55 : Nat) ({ cls := "LoanNames$DealReader", name := "needs", desc := "(IJ)V" } : Jvm.MethodName)) ∈ lw_all := lw_g (lw_at lw_m2 143 rfl) rfl
theorem q474 : (Jvm.Cond.sameMethod "LoanNames$DealReader" "LoanNames$Reader" "needs" "(IJ)V") ∈ lw_all := lw_g (lw_at lw_m2 144 rfl) rfl
theorem q476 : (Jvm.Cond.selects "LoanNames$DealReader" ({ cls := "LoanNames$DealReader", name := "needs", desc := "(IJ)V" } : Jvm.MethodName) ({ cls := "LoanNames$Reader", name := "needs", desc := "(IJ)V" } : Jvm.MethodName)) ∈ lw_all := lw_g (lw_at lw_m2 146 rfl) rfl
theorem q482 : (Jvm.Cond.selects "LoanNames$DealReader" ({ cls := "LoanNames$Reader", name := "takes", desc := "(IJ)Z" } : Jvm.MethodName) ({ cls := "LoanNames$Reader", name := "takes", desc := "(IJ)Z" } : Jvm.MethodName)) ∈ lw_all := lw_g (lw_at lw_m2 152 rfl) rfl
theorem q488 : (Jvm.Cond.selects "LoanNames$DealReader" ({ cls := "LoanNames$Reader", name := "is", desc := "(IJ)Z" } : Jvm.MethodName) ({ cls := "LoanNames$Reader", name := "is", desc := "(IJ)Z" } : Jvm.MethodName)) ∈ lw_all := lw_g (lw_at lw_m2 158 rfl) rfl
theorem q491 : (Jvm.Cond.fieldLinkNest "LoanNames$DealReader" (146 : Nat) "LoanNames" "AT" "J" "LoanNames") ∈ lw_tbl := lw_at lw_m2 161 rfl
theorem q493 : (Jvm.Cond.fieldLinkNest "LoanNames$DealReader" (149 : Nat) "LoanNames" "BACK" "J" "LoanNames") ∈ lw_tbl := lw_at lw_m2 163 rfl
theorem q495 : (Jvm.Cond.classLink "LoanNames$DealReader" (152 : Nat) "LoanNames$Hire") ∈ lw_all := lw_g (lw_at lw_m2 165 rfl) rfl
theorem q497 : (Jvm.Cond.methodLink "LoanNames$DealReader" (154 : Nat) ({ cls := "LoanNames$Hire", name := "<init>", desc := "(IIIIIII)V" } : Jvm.MethodName)) ∈ lw_all := lw_g (lw_at lw_m2 167 rfl) rfl
theorem q559 : (Jvm.Cond.classLink "LoanNames$DealReader" (157 : Nat) "LoanNames$Pass") ∈ lw_all := lw_g (lw_at lw_m2 229 rfl) rfl
theorem q561 : (Jvm.Cond.methodLink "LoanNames$DealReader" (159 : Nat) ({ cls := "LoanNames$Pass", name := "<init>", desc := "(IIIIII)V" } : Jvm.MethodName)) ∈ lw_all := lw_g (lw_at lw_m2 231 rfl) rfl
theorem q574 : (Jvm.Cond.classLink "LoanNames$DealReader" (162 : Nat) "LoanNames$Sale") ∈ lw_all := lw_g (lw_at lw_m3 4 rfl) rfl
theorem q576 : (Jvm.Cond.fieldLinkNest "LoanNames$DealReader" (164 : Nat) "LoanNames" "PAID" "J" "LoanNames") ∈ lw_tbl := lw_at lw_m3 6 rfl
theorem q578 : (Jvm.Cond.methodLink "LoanNames$DealReader" (38 : Nat) ({ cls := "LoanNames$DealReader", name := "takes", desc := "(IJ)Z" } : Jvm.MethodName)) ∈ lw_all := lw_g (lw_at lw_m3 8 rfl) rfl
theorem q579 : (Jvm.Cond.sameMethod "LoanNames$DealReader" "LoanNames$Reader" "takes" "(IJ)Z") ∈ lw_all := lw_g (lw_at lw_m3 9 rfl) rfl
theorem q581 : (Jvm.Cond.selects "LoanNames$DealReader" ({ cls := "LoanNames$DealReader", name := "takes", desc := "(IJ)Z" } : Jvm.MethodName) ({ cls := "LoanNames$Reader", name := "takes", desc := "(IJ)Z" } : Jvm.MethodName)) ∈ lw_all := lw_g (lw_at lw_m3 11 rfl) rfl
theorem q582 : (Jvm.Cond.methodLink "LoanNames$DealReader" (167 : Nat) ({ cls := "LoanNames$Sale", name := "<init>", desc := "(IIIIIII)V" } : Jvm.MethodName)) ∈ lw_all := lw_g (lw_at lw_m3 12 rfl) rfl
theorem q591 : (Jvm.Cond.fieldLinkNest "LoanNames$DealReader" (75 : Nat) "LoanNames" "AFTER" "J" "LoanNames") ∈ lw_tbl := lw_at lw_m3 21 rfl
theorem q593 : (Jvm.Cond.classLink "LoanNames$DealReader" (82 : Nat) "LoanNames$After") ∈ lw_all := lw_g (lw_at lw_m3 23 rfl) rfl
theorem q595 : (Jvm.Cond.methodLink "LoanNames$DealReader" (84 : Nat) ({ cls := "LoanNames$DealReader", name := "inner", desc := "()LLoanNames$All;" } : Jvm.MethodName)) ∈ lw_all := lw_g (lw_at lw_m3 25 rfl) rfl
theorem q596 : (Jvm.Cond.privateMethod ({ cls := "LoanNames$DealReader", name := "inner", desc := "()LLoanNames$All;" } : Jvm.MethodName)) ∈ lw_tbl := lw_at lw_m3 26 rfl
theorem q597 : (Jvm.Cond.instanceMethod ({ cls := "LoanNames$DealReader", name := "inner", desc := "()LLoanNames$All;" } : Jvm.MethodName)) ∈ lw_all := lw_g (lw_at lw_m3 27 rfl) rfl
theorem q598 : (Jvm.Cond.code ({ cls := "LoanNames$DealReader", name := "inner", desc := "()LLoanNames$All;" } : Jvm.MethodName) prog_7_method_4_code (2 : Nat) (Option.some (Jvm.ClassFile.FieldType.object "LoanNames$All"))) ∈ lw_all := lw_g (lw_at lw_m3 28 rfl) rfl
theorem q599 : (Jvm.Cond.constantLong "LoanNames$DealReader" (42 : Nat) (123 : Int64)) ∈ lw_all := lw_g (lw_at lw_m3 29 rfl) rfl
theorem q600 : (Jvm.Cond.methodLink "LoanNames$DealReader" (44 : Nat) ({ cls := "LoanNames$DealReader", name := "is", desc := "(IJ)Z" } : Jvm.MethodName)) ∈ lw_all := lw_g (lw_at lw_m3 30 rfl) rfl
theorem q601 : (Jvm.Cond.sameMethod "LoanNames$DealReader" "LoanNames$Reader" "is" "(IJ)Z") ∈ lw_all := lw_g (lw_at lw_m3 31 rfl) rfl
theorem q603 : (Jvm.Cond.selects "LoanNames$DealReader" ({ cls := "LoanNames$DealReader", name := "is", desc := "(IJ)Z" } : Jvm.MethodName) ({ cls := "LoanNames$Reader", name := "is", desc := "(IJ)Z" } : Jvm.MethodName)) ∈ lw_all := lw_g (lw_at lw_m3 33 rfl) rfl
theorem q604 : (Jvm.Cond.constantLong "LoanNames$DealReader" (53 : Nat) (125 : Int64)) ∈ lw_all := lw_g (lw_at lw_m3 34 rfl) rfl
theorem q605 : (Jvm.Cond.methodLink "LoanNames$DealReader" (87 : Nat) ({ cls := "LoanNames$After", name := "<init>", desc := "(ILLoanNames$All;)V" } : Jvm.MethodName)) ∈ lw_all := lw_g (lw_at lw_m3 35 rfl) rfl
theorem q616 : (Jvm.Cond.fieldLinkNest "LoanNames$DealReader" (90 : Nat) "LoanNames" "TIMES" "J" "LoanNames") ∈ lw_tbl := lw_at lw_m3 46 rfl
theorem q618 : (Jvm.Cond.classLink "LoanNames$DealReader" (93 : Nat) "LoanNames$Times") ∈ lw_all := lw_g (lw_at lw_m3 48 rfl) rfl
theorem q620 : (Jvm.Cond.methodLink "LoanNames$DealReader" (95 : Nat) ({ cls := "LoanNames$Times", name := "<init>", desc := "(ILLoanNames$All;)V" } : Jvm.MethodName)) ∈ lw_all := lw_g (lw_at lw_m3 50 rfl) rfl
theorem q631 : (Jvm.Cond.fieldLinkNest "LoanNames$DealReader" (96 : Nat) "LoanNames" "IF" "J" "LoanNames") ∈ lw_tbl := lw_at lw_m3 61 rfl
theorem q633 : (Jvm.Cond.fieldLinkNest "LoanNames$DealReader" (99 : Nat) "LoanNames" "EVENT_NAMES" "[J" "LoanNames") ∈ lw_tbl := lw_at lw_m3 63 rfl
theorem q635 : (Jvm.Cond.classLink "LoanNames$DealReader" (109 : Nat) "LoanNames$If") ∈ lw_all := lw_g (lw_at lw_m3 65 rfl) rfl
theorem q637 : (Jvm.Cond.fieldLinkNest "LoanNames$DealReader" (111 : Nat) "LoanNames" "ELSE" "J" "LoanNames") ∈ lw_tbl := lw_at lw_m3 67 rfl
theorem q639 : (Jvm.Cond.methodLink "LoanNames$DealReader" (114 : Nat) ({ cls := "LoanNames$If", name := "<init>", desc := "(ILLoanNames$All;LLoanNames$All;)V" } : Jvm.MethodName)) ∈ lw_all := lw_g (lw_at lw_m3 69 rfl) rfl
theorem q656 : (Jvm.Cond.methodLink "LoanNames$DealReader" (117 : Nat) ({ cls := "LoanNames$DealReader", name := "choice", desc := "()LLoanNames$Part;" } : Jvm.MethodName)) ∈ lw_all := lw_g (lw_at lw_m3 86 rfl) rfl
theorem q657 : (Jvm.Cond.privateMethod ({ cls := "LoanNames$DealReader", name := "choice", desc := "()LLoanNames$Part;" } : Jvm.MethodName)) ∈ lw_tbl := lw_at lw_m3 87 rfl
theorem q658 : (Jvm.Cond.instanceMethod ({ cls := "LoanNames$DealReader", name := "choice", desc := "()LLoanNames$Part;" } : Jvm.MethodName)) ∈ lw_all := lw_g (lw_at lw_m3 88 rfl) rfl
theorem q659 : (Jvm.Cond.code ({ cls := "LoanNames$DealReader", name := "choice", desc := "()LLoanNames$Part;" } : Jvm.MethodName) prog_7_method_6_code (4 : Nat) (Option.some (Jvm.ClassFile.FieldType.object "LoanNames$Part"))) ∈ lw_all := lw_g (lw_at lw_m3 89 rfl) rfl
theorem q660 : (Jvm.Cond.fieldLinkNest "LoanNames$DealReader" (120 : Nat) "LoanNames" "CHOICE" "J" "LoanNames") ∈ lw_tbl := lw_at lw_m3 90 rfl
theorem q662 : (Jvm.Cond.classLink "LoanNames$DealReader" (129 : Nat) "LoanNames$Choice") ∈ lw_all := lw_g (lw_at lw_m3 92 rfl) rfl
theorem q664 : (Jvm.Cond.fieldLinkNest "LoanNames$DealReader" (131 : Nat) "LoanNames" "OR" "J" "LoanNames") ∈ lw_tbl := lw_at lw_m3 94 rfl
theorem q666 : (Jvm.Cond.methodLink "LoanNames$DealReader" (134 : Nat) ({ cls := "LoanNames$Choice", name := "<init>", desc := "(IILLoanNames$All;LLoanNames$All;)V" } : Jvm.MethodName)) ∈ lw_all := lw_g (lw_at lw_m3 96 rfl) rfl
theorem q679 : (Jvm.Cond.methodLink "LoanNames$DealReader" (32 : Nat) ({ cls := "LoanNames$All", name := "adds", desc := "(LLoanNames$Part;)V" } : Jvm.MethodName)) ∈ lw_all := lw_g (lw_at lw_m3 109 rfl) rfl
theorem q686 : (Jvm.Cond.constantLong "LoanNames$DealReader" (36 : Nat) (44 : Int64)) ∈ lw_all := lw_g (lw_at lw_m3 116 rfl) rfl
theorem q688 : (Jvm.Cond.sameMethod "LoanNames$DealReader" "LoanNames$Reader" "place" "()I") ∈ lw_all := lw_g (lw_at lw_m3 118 rfl) rfl
theorem q690 : (Jvm.Cond.selects "LoanNames$DealReader" ({ cls := "LoanNames$DealReader", name := "place", desc := "()I" } : Jvm.MethodName) ({ cls := "LoanNames$Reader", name := "place", desc := "()I" } : Jvm.MethodName)) ∈ lw_all := lw_g (lw_at lw_m3 120 rfl) rfl
theorem q2146 : (Jvm.Cond.selects "LoanNames$DealReader" ({ cls := "LoanNames$Reader", name := "pass", desc := "()V" } : Jvm.MethodName) ({ cls := "LoanNames$Reader", name := "pass", desc := "()V" } : Jvm.MethodName)) ∈ lw_all := lw_g (lw_at lw_m9 136 rfl) rfl
theorem in_X7 : ∀ w ∈ wsX70, w ∈ lw_all := lw_in wsX70 [392, 394, 396, 398, 400, 402, 404, 384, 386, 388, 390] (by decide +kernel) (by decide +kernel)
/-! LoanNames$All -/
set_option maxRecDepth 100000
def RX8 : String := "LoanNames$All"
def TX8 : u_T := fun k => match k with
  | 0 => ("LoanNames$All", "parts", "[LLoanNames$Part;", false)
  | _ => ("LoanNames$All", "many", "I", false)
def tyX8 : Nat → FieldType := fun k => match k with
  | 0 => .array (.object "LoanNames$Part")
  | _ => .int
abbrev wsX80 : List Cond := u_ws RX8 TX8 2
theorem nmX8 : ∀ a, a < 2 → ∀ b, b < 2 → a ≠ b → (TX8 a).2.1 ≠ (TX8 b).2.1 := by decide +kernel
theorem tyX8_ok : ∀ k, k < 2 → parseFieldDescriptor (TX8 k).2.2.1 = some (tyX8 k) := by decide +kernel
abbrev cX8_init : ByteArray := prog_3_method_1_code
def yX8_init : MethodName := ⟨RX8, "<init>", "()V"⟩
def dkwX8_init_0 : List UInt8 := [42, 183, 0, 1, 42, 7, 189, 0, 7, 181, 0, 9, 177]
abbrev dktX8_init_0 : List UInt8 := dkwX8_init_0 ++ []
theorem dksX8_init_0 : cX8_init.data.toList.drop 0 = dktX8_init_0 := by decide +kernel
theorem dX8_init_0 : decode cX8_init 0 = .ok (.aload_n 0, 1) := dk_42 (dk_at dksX8_init_0 0 rfl rfl)
theorem dX8_init_1 : decode cX8_init 1 = .ok (.invokespecial 1, 3) := dk_183 0 1 (dk_at dksX8_init_0 1 rfl rfl)
theorem dX8_init_4 : decode cX8_init 4 = .ok (.aload_n 0, 1) := dk_42 (dk_at dksX8_init_0 4 rfl rfl)
theorem dX8_init_5 : decode cX8_init 5 = .ok (.iconst 4, 1) := dk_7 (dk_at dksX8_init_0 5 rfl rfl)
theorem dX8_init_6 : decode cX8_init 6 = .ok (.anewarray 7, 3) := dk_189 0 7 (dk_at dksX8_init_0 6 rfl rfl)
theorem dX8_init_9 : decode cX8_init 9 = .ok (.putfield 9, 3) := dk_181 0 9 (dk_at dksX8_init_0 9 rfl rfl)
theorem dX8_init_12 : decode cX8_init 12 = .ok (.return_, 1) := dk_177 (dk_at dksX8_init_0 12 rfl rfl)
abbrev cX8_adds : ByteArray := prog_3_method_2_code
def yX8_adds : MethodName := ⟨RX8, "adds", "(LLoanNames$Part;)V"⟩
def dkwX8_adds_2 : List UInt8 := [180, 0, 15, 43, 83, 42, 89, 180, 0, 15, 4, 96, 181, 0, 15, 177]
abbrev dktX8_adds_2 : List UInt8 := dkwX8_adds_2 ++ []
def dkwX8_adds_1 : List UInt8 := [180, 0, 9, 3, 44, 3, 42, 180, 0, 15, 184, 0, 19, 42, 44, 181, 0, 9, 42, 180, 0, 9, 42]
abbrev dktX8_adds_1 : List UInt8 := dkwX8_adds_1 ++ dktX8_adds_2
def dkwX8_adds_0 : List UInt8 := [42, 180, 0, 15, 42, 180, 0, 9, 190, 160, 0, 32, 5, 42, 180, 0, 15, 104, 189, 0, 7, 77, 42]
abbrev dktX8_adds_0 : List UInt8 := dkwX8_adds_0 ++ dktX8_adds_1
theorem dksX8_adds_0 : cX8_adds.data.toList.drop 0 = dktX8_adds_0 := by decide +kernel
theorem dksX8_adds_1 : cX8_adds.data.toList.drop 23 = dktX8_adds_1 := dk_seg dksX8_adds_0 23 rfl rfl
theorem dksX8_adds_2 : cX8_adds.data.toList.drop 46 = dktX8_adds_2 := dk_seg dksX8_adds_1 23 rfl rfl
theorem dX8_adds_0 : decode cX8_adds 0 = .ok (.aload_n 0, 1) := dk_42 (dk_at dksX8_adds_0 0 rfl rfl)
theorem dX8_adds_1 : decode cX8_adds 1 = .ok (.getfield 15, 3) := dk_180 0 15 (dk_at dksX8_adds_0 1 rfl rfl)
theorem dX8_adds_4 : decode cX8_adds 4 = .ok (.aload_n 0, 1) := dk_42 (dk_at dksX8_adds_0 4 rfl rfl)
theorem dX8_adds_5 : decode cX8_adds 5 = .ok (.getfield 9, 3) := dk_180 0 9 (dk_at dksX8_adds_0 5 rfl rfl)
theorem dX8_adds_8 : decode cX8_adds 8 = .ok (.arraylength, 1) := dk_190 (dk_at dksX8_adds_0 8 rfl rfl)
theorem dX8_adds_9 : decode cX8_adds 9 = .ok (.if_icmp .ne 32, 3) := dk_160 0 32 (dk_at dksX8_adds_0 9 rfl rfl)
theorem dX8_adds_12 : decode cX8_adds 12 = .ok (.iconst 2, 1) := dk_5 (dk_at dksX8_adds_0 12 rfl rfl)
theorem dX8_adds_13 : decode cX8_adds 13 = .ok (.aload_n 0, 1) := dk_42 (dk_at dksX8_adds_0 13 rfl rfl)
theorem dX8_adds_14 : decode cX8_adds 14 = .ok (.getfield 15, 3) := dk_180 0 15 (dk_at dksX8_adds_0 14 rfl rfl)
theorem dX8_adds_17 : decode cX8_adds 17 = .ok (.imul, 1) := dk_104 (dk_at dksX8_adds_0 17 rfl rfl)
theorem dX8_adds_18 : decode cX8_adds 18 = .ok (.anewarray 7, 3) := dk_189 0 7 (dk_at dksX8_adds_0 18 rfl rfl)
theorem dX8_adds_21 : decode cX8_adds 21 = .ok (.astore_n 2, 1) := dk_77 (dk_at dksX8_adds_0 21 rfl rfl)
theorem dX8_adds_22 : decode cX8_adds 22 = .ok (.aload_n 0, 1) := dk_42 (dk_at dksX8_adds_0 22 rfl rfl)
theorem dX8_adds_23 : decode cX8_adds 23 = .ok (.getfield 9, 3) := dk_180 0 9 (dk_at dksX8_adds_1 0 rfl rfl)
theorem dX8_adds_26 : decode cX8_adds 26 = .ok (.iconst 0, 1) := dk_3 (dk_at dksX8_adds_1 3 rfl rfl)
theorem dX8_adds_27 : decode cX8_adds 27 = .ok (.aload_n 2, 1) := dk_44 (dk_at dksX8_adds_1 4 rfl rfl)
theorem dX8_adds_28 : decode cX8_adds 28 = .ok (.iconst 0, 1) := dk_3 (dk_at dksX8_adds_1 5 rfl rfl)
theorem dX8_adds_29 : decode cX8_adds 29 = .ok (.aload_n 0, 1) := dk_42 (dk_at dksX8_adds_1 6 rfl rfl)
theorem dX8_adds_30 : decode cX8_adds 30 = .ok (.getfield 15, 3) := dk_180 0 15 (dk_at dksX8_adds_1 7 rfl rfl)
theorem dX8_adds_33 : decode cX8_adds 33 = .ok (.invokestatic 19, 3) := dk_184 0 19 (dk_at dksX8_adds_1 10 rfl rfl)
theorem dX8_adds_36 : decode cX8_adds 36 = .ok (.aload_n 0, 1) := dk_42 (dk_at dksX8_adds_1 13 rfl rfl)
theorem dX8_adds_37 : decode cX8_adds 37 = .ok (.aload_n 2, 1) := dk_44 (dk_at dksX8_adds_1 14 rfl rfl)
theorem dX8_adds_38 : decode cX8_adds 38 = .ok (.putfield 9, 3) := dk_181 0 9 (dk_at dksX8_adds_1 15 rfl rfl)
theorem dX8_adds_41 : decode cX8_adds 41 = .ok (.aload_n 0, 1) := dk_42 (dk_at dksX8_adds_1 18 rfl rfl)
theorem dX8_adds_42 : decode cX8_adds 42 = .ok (.getfield 9, 3) := dk_180 0 9 (dk_at dksX8_adds_1 19 rfl rfl)
theorem dX8_adds_45 : decode cX8_adds 45 = .ok (.aload_n 0, 1) := dk_42 (dk_at dksX8_adds_1 22 rfl rfl)
theorem dX8_adds_46 : decode cX8_adds 46 = .ok (.getfield 15, 3) := dk_180 0 15 (dk_at dksX8_adds_2 0 rfl rfl)
theorem dX8_adds_49 : decode cX8_adds 49 = .ok (.aload_n 1, 1) := dk_43 (dk_at dksX8_adds_2 3 rfl rfl)
theorem dX8_adds_50 : decode cX8_adds 50 = .ok (.aastore, 1) := dk_83 (dk_at dksX8_adds_2 4 rfl rfl)
theorem dX8_adds_51 : decode cX8_adds 51 = .ok (.aload_n 0, 1) := dk_42 (dk_at dksX8_adds_2 5 rfl rfl)
theorem dX8_adds_52 : decode cX8_adds 52 = .ok (.dup, 1) := dk_89 (dk_at dksX8_adds_2 6 rfl rfl)
theorem dX8_adds_53 : decode cX8_adds 53 = .ok (.getfield 15, 3) := dk_180 0 15 (dk_at dksX8_adds_2 7 rfl rfl)
theorem dX8_adds_56 : decode cX8_adds 56 = .ok (.iconst 1, 1) := dk_4 (dk_at dksX8_adds_2 10 rfl rfl)
theorem dX8_adds_57 : decode cX8_adds 57 = .ok (.iadd, 1) := dk_96 (dk_at dksX8_adds_2 11 rfl rfl)
theorem dX8_adds_58 : decode cX8_adds 58 = .ok (.putfield 15, 3) := dk_181 0 15 (dk_at dksX8_adds_2 12 rfl rfl)
theorem dX8_adds_61 : decode cX8_adds 61 = .ok (.return_, 1) := dk_177 (dk_at dksX8_adds_2 15 rfl rfl)
abbrev cX8_leaves : ByteArray := prog_3_method_5_code
def yX8_leaves : MethodName := ⟨RX8, "leaves", "(LLoanNames$LeafRow;I)V"⟩
def dkwX8_leaves_1 : List UInt8 := [167, 255, 234, 177]
abbrev dktX8_leaves_1 : List UInt8 := dkwX8_leaves_1 ++ []
def dkwX8_leaves_0 : List UInt8 := [3, 62, 29, 42, 180, 0, 15, 162, 0, 20, 42, 180, 0, 9, 29, 50, 43, 28, 182, 0, 33, 132, 3, 1]
abbrev dktX8_leaves_0 : List UInt8 := dkwX8_leaves_0 ++ dktX8_leaves_1
theorem dksX8_leaves_0 : cX8_leaves.data.toList.drop 0 = dktX8_leaves_0 := by decide +kernel
theorem dksX8_leaves_1 : cX8_leaves.data.toList.drop 24 = dktX8_leaves_1 := dk_seg dksX8_leaves_0 24 rfl rfl
theorem dX8_leaves_0 : decode cX8_leaves 0 = .ok (.iconst 0, 1) := dk_3 (dk_at dksX8_leaves_0 0 rfl rfl)
theorem dX8_leaves_1 : decode cX8_leaves 1 = .ok (.istore_n 3, 1) := dk_62 (dk_at dksX8_leaves_0 1 rfl rfl)
theorem dX8_leaves_2 : decode cX8_leaves 2 = .ok (.iload_n 3, 1) := dk_29 (dk_at dksX8_leaves_0 2 rfl rfl)
theorem dX8_leaves_3 : decode cX8_leaves 3 = .ok (.aload_n 0, 1) := dk_42 (dk_at dksX8_leaves_0 3 rfl rfl)
theorem dX8_leaves_4 : decode cX8_leaves 4 = .ok (.getfield 15, 3) := dk_180 0 15 (dk_at dksX8_leaves_0 4 rfl rfl)
theorem dX8_leaves_7 : decode cX8_leaves 7 = .ok (.if_icmp .ge 20, 3) := dk_162 0 20 (dk_at dksX8_leaves_0 7 rfl rfl)
theorem dX8_leaves_10 : decode cX8_leaves 10 = .ok (.aload_n 0, 1) := dk_42 (dk_at dksX8_leaves_0 10 rfl rfl)
theorem dX8_leaves_11 : decode cX8_leaves 11 = .ok (.getfield 9, 3) := dk_180 0 9 (dk_at dksX8_leaves_0 11 rfl rfl)
theorem dX8_leaves_14 : decode cX8_leaves 14 = .ok (.iload_n 3, 1) := dk_29 (dk_at dksX8_leaves_0 14 rfl rfl)
theorem dX8_leaves_15 : decode cX8_leaves 15 = .ok (.aaload, 1) := dk_50 (dk_at dksX8_leaves_0 15 rfl rfl)
theorem dX8_leaves_16 : decode cX8_leaves 16 = .ok (.aload_n 1, 1) := dk_43 (dk_at dksX8_leaves_0 16 rfl rfl)
theorem dX8_leaves_17 : decode cX8_leaves 17 = .ok (.iload_n 2, 1) := dk_28 (dk_at dksX8_leaves_0 17 rfl rfl)
theorem dX8_leaves_18 : decode cX8_leaves 18 = .ok (.invokevirtual 33, 3) := dk_182 0 33 (dk_at dksX8_leaves_0 18 rfl rfl)
theorem dX8_leaves_21 : decode cX8_leaves 21 = .ok (.iinc 3 1, 3) := dk_132 3 1 (dk_at dksX8_leaves_0 21 rfl rfl)
theorem dX8_leaves_24 : decode cX8_leaves 24 = .ok (.goto (-22), 3) := dk_167 255 234 (dk_at dksX8_leaves_1 0 rfl rfl)
theorem dX8_leaves_27 : decode cX8_leaves 27 = .ok (.return_, 1) := dk_177 (dk_at dksX8_leaves_1 3 rfl rfl)
abbrev cX8_plain : ByteArray := prog_3_method_8_code
def yX8_plain : MethodName := ⟨RX8, "plain", "(LLoanNames$Plain;)LLoanNames$All;"⟩
def dkwX8_plain_1 : List UInt8 := [50, 43, 182, 0, 46, 182, 0, 50, 132, 3, 1, 167, 255, 231, 44, 176]
abbrev dktX8_plain_1 : List UInt8 := dkwX8_plain_1 ++ []
def dkwX8_plain_0 : List UInt8 := [187, 0, 10, 89, 183, 0, 45, 77, 3, 62, 29, 42, 180, 0, 15, 162, 0, 23, 44, 42, 180, 0, 9, 29]
abbrev dktX8_plain_0 : List UInt8 := dkwX8_plain_0 ++ dktX8_plain_1
theorem dksX8_plain_0 : cX8_plain.data.toList.drop 0 = dktX8_plain_0 := by decide +kernel
theorem dksX8_plain_1 : cX8_plain.data.toList.drop 24 = dktX8_plain_1 := dk_seg dksX8_plain_0 24 rfl rfl
theorem dX8_plain_0 : decode cX8_plain 0 = .ok (.new 10, 3) := dk_187 0 10 (dk_at dksX8_plain_0 0 rfl rfl)
theorem dX8_plain_3 : decode cX8_plain 3 = .ok (.dup, 1) := dk_89 (dk_at dksX8_plain_0 3 rfl rfl)
theorem dX8_plain_4 : decode cX8_plain 4 = .ok (.invokespecial 45, 3) := dk_183 0 45 (dk_at dksX8_plain_0 4 rfl rfl)
theorem dX8_plain_7 : decode cX8_plain 7 = .ok (.astore_n 2, 1) := dk_77 (dk_at dksX8_plain_0 7 rfl rfl)
theorem dX8_plain_8 : decode cX8_plain 8 = .ok (.iconst 0, 1) := dk_3 (dk_at dksX8_plain_0 8 rfl rfl)
theorem dX8_plain_9 : decode cX8_plain 9 = .ok (.istore_n 3, 1) := dk_62 (dk_at dksX8_plain_0 9 rfl rfl)
theorem dX8_plain_10 : decode cX8_plain 10 = .ok (.iload_n 3, 1) := dk_29 (dk_at dksX8_plain_0 10 rfl rfl)
theorem dX8_plain_11 : decode cX8_plain 11 = .ok (.aload_n 0, 1) := dk_42 (dk_at dksX8_plain_0 11 rfl rfl)
theorem dX8_plain_12 : decode cX8_plain 12 = .ok (.getfield 15, 3) := dk_180 0 15 (dk_at dksX8_plain_0 12 rfl rfl)
theorem dX8_plain_15 : decode cX8_plain 15 = .ok (.if_icmp .ge 23, 3) := dk_162 0 23 (dk_at dksX8_plain_0 15 rfl rfl)
theorem dX8_plain_18 : decode cX8_plain 18 = .ok (.aload_n 2, 1) := dk_44 (dk_at dksX8_plain_0 18 rfl rfl)
theorem dX8_plain_19 : decode cX8_plain 19 = .ok (.aload_n 0, 1) := dk_42 (dk_at dksX8_plain_0 19 rfl rfl)
theorem dX8_plain_20 : decode cX8_plain 20 = .ok (.getfield 9, 3) := dk_180 0 9 (dk_at dksX8_plain_0 20 rfl rfl)
theorem dX8_plain_23 : decode cX8_plain 23 = .ok (.iload_n 3, 1) := dk_29 (dk_at dksX8_plain_0 23 rfl rfl)
theorem dX8_plain_24 : decode cX8_plain 24 = .ok (.aaload, 1) := dk_50 (dk_at dksX8_plain_1 0 rfl rfl)
theorem dX8_plain_25 : decode cX8_plain 25 = .ok (.aload_n 1, 1) := dk_43 (dk_at dksX8_plain_1 1 rfl rfl)
theorem dX8_plain_26 : decode cX8_plain 26 = .ok (.invokevirtual 46, 3) := dk_182 0 46 (dk_at dksX8_plain_1 2 rfl rfl)
theorem dX8_plain_29 : decode cX8_plain 29 = .ok (.invokevirtual 50, 3) := dk_182 0 50 (dk_at dksX8_plain_1 5 rfl rfl)
theorem dX8_plain_32 : decode cX8_plain 32 = .ok (.iinc 3 1, 3) := dk_132 3 1 (dk_at dksX8_plain_1 8 rfl rfl)
theorem dX8_plain_35 : decode cX8_plain 35 = .ok (.goto (-25), 3) := dk_167 255 231 (dk_at dksX8_plain_1 11 rfl rfl)
theorem dX8_plain_38 : decode cX8_plain 38 = .ok (.aload_n 2, 1) := dk_44 (dk_at dksX8_plain_1 14 rfl rfl)
theorem dX8_plain_39 : decode cX8_plain 39 = .ok (.areturn, 1) := dk_176 (dk_at dksX8_plain_1 15 rfl rfl)
abbrev cX8_isLike : ByteArray := prog_3_method_7_code
def yX8_isLike : MethodName := ⟨RX8, "isLike", "(LLoanNames$All;)Z"⟩
def dkwX8_isLike_2 : List UInt8 := [167, 255, 225, 4, 172]
abbrev dktX8_isLike_2 : List UInt8 := dkwX8_isLike_2 ++ []
def dkwX8_isLike_1 : List UInt8 := [180, 0, 9, 28, 50, 43, 180, 0, 9, 28, 50, 182, 0, 41, 154, 0, 5, 3, 172, 132, 2, 1]
abbrev dktX8_isLike_1 : List UInt8 := dkwX8_isLike_1 ++ dktX8_isLike_2
def dkwX8_isLike_0 : List UInt8 := [42, 180, 0, 15, 43, 180, 0, 15, 159, 0, 5, 3, 172, 3, 61, 28, 42, 180, 0, 15, 162, 0, 29, 42]
abbrev dktX8_isLike_0 : List UInt8 := dkwX8_isLike_0 ++ dktX8_isLike_1
theorem dksX8_isLike_0 : cX8_isLike.data.toList.drop 0 = dktX8_isLike_0 := by decide +kernel
theorem dksX8_isLike_1 : cX8_isLike.data.toList.drop 24 = dktX8_isLike_1 := dk_seg dksX8_isLike_0 24 rfl rfl
theorem dksX8_isLike_2 : cX8_isLike.data.toList.drop 46 = dktX8_isLike_2 := dk_seg dksX8_isLike_1 22 rfl rfl
theorem dX8_isLike_0 : decode cX8_isLike 0 = .ok (.aload_n 0, 1) := dk_42 (dk_at dksX8_isLike_0 0 rfl rfl)
theorem dX8_isLike_1 : decode cX8_isLike 1 = .ok (.getfield 15, 3) := dk_180 0 15 (dk_at dksX8_isLike_0 1 rfl rfl)
theorem dX8_isLike_4 : decode cX8_isLike 4 = .ok (.aload_n 1, 1) := dk_43 (dk_at dksX8_isLike_0 4 rfl rfl)
theorem dX8_isLike_5 : decode cX8_isLike 5 = .ok (.getfield 15, 3) := dk_180 0 15 (dk_at dksX8_isLike_0 5 rfl rfl)
theorem dX8_isLike_8 : decode cX8_isLike 8 = .ok (.if_icmp .eq 5, 3) := dk_159 0 5 (dk_at dksX8_isLike_0 8 rfl rfl)
theorem dX8_isLike_11 : decode cX8_isLike 11 = .ok (.iconst 0, 1) := dk_3 (dk_at dksX8_isLike_0 11 rfl rfl)
theorem dX8_isLike_12 : decode cX8_isLike 12 = .ok (.ireturn, 1) := dk_172 (dk_at dksX8_isLike_0 12 rfl rfl)
theorem dX8_isLike_13 : decode cX8_isLike 13 = .ok (.iconst 0, 1) := dk_3 (dk_at dksX8_isLike_0 13 rfl rfl)
theorem dX8_isLike_14 : decode cX8_isLike 14 = .ok (.istore_n 2, 1) := dk_61 (dk_at dksX8_isLike_0 14 rfl rfl)
theorem dX8_isLike_15 : decode cX8_isLike 15 = .ok (.iload_n 2, 1) := dk_28 (dk_at dksX8_isLike_0 15 rfl rfl)
theorem dX8_isLike_16 : decode cX8_isLike 16 = .ok (.aload_n 0, 1) := dk_42 (dk_at dksX8_isLike_0 16 rfl rfl)
theorem dX8_isLike_17 : decode cX8_isLike 17 = .ok (.getfield 15, 3) := dk_180 0 15 (dk_at dksX8_isLike_0 17 rfl rfl)
theorem dX8_isLike_20 : decode cX8_isLike 20 = .ok (.if_icmp .ge 29, 3) := dk_162 0 29 (dk_at dksX8_isLike_0 20 rfl rfl)
theorem dX8_isLike_23 : decode cX8_isLike 23 = .ok (.aload_n 0, 1) := dk_42 (dk_at dksX8_isLike_0 23 rfl rfl)
theorem dX8_isLike_24 : decode cX8_isLike 24 = .ok (.getfield 9, 3) := dk_180 0 9 (dk_at dksX8_isLike_1 0 rfl rfl)
theorem dX8_isLike_27 : decode cX8_isLike 27 = .ok (.iload_n 2, 1) := dk_28 (dk_at dksX8_isLike_1 3 rfl rfl)
theorem dX8_isLike_28 : decode cX8_isLike 28 = .ok (.aaload, 1) := dk_50 (dk_at dksX8_isLike_1 4 rfl rfl)
theorem dX8_isLike_29 : decode cX8_isLike 29 = .ok (.aload_n 1, 1) := dk_43 (dk_at dksX8_isLike_1 5 rfl rfl)
theorem dX8_isLike_30 : decode cX8_isLike 30 = .ok (.getfield 9, 3) := dk_180 0 9 (dk_at dksX8_isLike_1 6 rfl rfl)
theorem dX8_isLike_33 : decode cX8_isLike 33 = .ok (.iload_n 2, 1) := dk_28 (dk_at dksX8_isLike_1 9 rfl rfl)
theorem dX8_isLike_34 : decode cX8_isLike 34 = .ok (.aaload, 1) := dk_50 (dk_at dksX8_isLike_1 10 rfl rfl)
theorem dX8_isLike_35 : decode cX8_isLike 35 = .ok (.invokevirtual 41, 3) := dk_182 0 41 (dk_at dksX8_isLike_1 11 rfl rfl)
theorem dX8_isLike_38 : decode cX8_isLike 38 = .ok (.ifCond .ne 5, 3) := dk_154 0 5 (dk_at dksX8_isLike_1 14 rfl rfl)
theorem dX8_isLike_41 : decode cX8_isLike 41 = .ok (.iconst 0, 1) := dk_3 (dk_at dksX8_isLike_1 17 rfl rfl)
theorem dX8_isLike_42 : decode cX8_isLike 42 = .ok (.ireturn, 1) := dk_172 (dk_at dksX8_isLike_1 18 rfl rfl)
theorem dX8_isLike_43 : decode cX8_isLike 43 = .ok (.iinc 2 1, 3) := dk_132 2 1 (dk_at dksX8_isLike_1 19 rfl rfl)
theorem dX8_isLike_46 : decode cX8_isLike 46 = .ok (.goto (-31), 3) := dk_167 255 225 (dk_at dksX8_isLike_2 0 rfl rfl)
theorem dX8_isLike_49 : decode cX8_isLike 49 = .ok (.iconst 1, 1) := dk_4 (dk_at dksX8_isLike_2 3 rfl rfl)
theorem dX8_isLike_50 : decode cX8_isLike 50 = .ok (.ireturn, 1) := dk_172 (dk_at dksX8_isLike_2 4 rfl rfl)
abbrev cX8_hasChoice : ByteArray := prog_3_method_6_code
def yX8_hasChoice : MethodName := ⟨RX8, "hasChoice", "()Z"⟩
def dkwX8_hasChoice_1 : List UInt8 := [182, 0, 37, 153, 0, 7, 4, 167, 0, 4, 3, 60, 132, 2, 1, 167, 255, 223, 27, 172]
abbrev dktX8_hasChoice_1 : List UInt8 := dkwX8_hasChoice_1 ++ []
def dkwX8_hasChoice_0 : List UInt8 := [3, 60, 3, 61, 28, 42, 180, 0, 15, 162, 0, 31, 27, 154, 0, 15, 42, 180, 0, 9, 28, 50]
abbrev dktX8_hasChoice_0 : List UInt8 := dkwX8_hasChoice_0 ++ dktX8_hasChoice_1
theorem dksX8_hasChoice_0 : cX8_hasChoice.data.toList.drop 0 = dktX8_hasChoice_0 := by decide +kernel
theorem dksX8_hasChoice_1 : cX8_hasChoice.data.toList.drop 22 = dktX8_hasChoice_1 := dk_seg dksX8_hasChoice_0 22 rfl rfl
theorem dX8_hasChoice_0 : decode cX8_hasChoice 0 = .ok (.iconst 0, 1) := dk_3 (dk_at dksX8_hasChoice_0 0 rfl rfl)
theorem dX8_hasChoice_1 : decode cX8_hasChoice 1 = .ok (.istore_n 1, 1) := dk_60 (dk_at dksX8_hasChoice_0 1 rfl rfl)
theorem dX8_hasChoice_2 : decode cX8_hasChoice 2 = .ok (.iconst 0, 1) := dk_3 (dk_at dksX8_hasChoice_0 2 rfl rfl)
theorem dX8_hasChoice_3 : decode cX8_hasChoice 3 = .ok (.istore_n 2, 1) := dk_61 (dk_at dksX8_hasChoice_0 3 rfl rfl)
theorem dX8_hasChoice_4 : decode cX8_hasChoice 4 = .ok (.iload_n 2, 1) := dk_28 (dk_at dksX8_hasChoice_0 4 rfl rfl)
theorem dX8_hasChoice_5 : decode cX8_hasChoice 5 = .ok (.aload_n 0, 1) := dk_42 (dk_at dksX8_hasChoice_0 5 rfl rfl)
theorem dX8_hasChoice_6 : decode cX8_hasChoice 6 = .ok (.getfield 15, 3) := dk_180 0 15 (dk_at dksX8_hasChoice_0 6 rfl rfl)
theorem dX8_hasChoice_9 : decode cX8_hasChoice 9 = .ok (.if_icmp .ge 31, 3) := dk_162 0 31 (dk_at dksX8_hasChoice_0 9 rfl rfl)
theorem dX8_hasChoice_12 : decode cX8_hasChoice 12 = .ok (.iload_n 1, 1) := dk_27 (dk_at dksX8_hasChoice_0 12 rfl rfl)
theorem dX8_hasChoice_13 : decode cX8_hasChoice 13 = .ok (.ifCond .ne 15, 3) := dk_154 0 15 (dk_at dksX8_hasChoice_0 13 rfl rfl)
theorem dX8_hasChoice_16 : decode cX8_hasChoice 16 = .ok (.aload_n 0, 1) := dk_42 (dk_at dksX8_hasChoice_0 16 rfl rfl)
theorem dX8_hasChoice_17 : decode cX8_hasChoice 17 = .ok (.getfield 9, 3) := dk_180 0 9 (dk_at dksX8_hasChoice_0 17 rfl rfl)
theorem dX8_hasChoice_20 : decode cX8_hasChoice 20 = .ok (.iload_n 2, 1) := dk_28 (dk_at dksX8_hasChoice_0 20 rfl rfl)
theorem dX8_hasChoice_21 : decode cX8_hasChoice 21 = .ok (.aaload, 1) := dk_50 (dk_at dksX8_hasChoice_0 21 rfl rfl)
theorem dX8_hasChoice_22 : decode cX8_hasChoice 22 = .ok (.invokevirtual 37, 3) := dk_182 0 37 (dk_at dksX8_hasChoice_1 0 rfl rfl)
theorem dX8_hasChoice_25 : decode cX8_hasChoice 25 = .ok (.ifCond .eq 7, 3) := dk_153 0 7 (dk_at dksX8_hasChoice_1 3 rfl rfl)
theorem dX8_hasChoice_28 : decode cX8_hasChoice 28 = .ok (.iconst 1, 1) := dk_4 (dk_at dksX8_hasChoice_1 6 rfl rfl)
theorem dX8_hasChoice_29 : decode cX8_hasChoice 29 = .ok (.goto 4, 3) := dk_167 0 4 (dk_at dksX8_hasChoice_1 7 rfl rfl)
theorem dX8_hasChoice_32 : decode cX8_hasChoice 32 = .ok (.iconst 0, 1) := dk_3 (dk_at dksX8_hasChoice_1 10 rfl rfl)
theorem dX8_hasChoice_33 : decode cX8_hasChoice 33 = .ok (.istore_n 1, 1) := dk_60 (dk_at dksX8_hasChoice_1 11 rfl rfl)
theorem dX8_hasChoice_34 : decode cX8_hasChoice 34 = .ok (.iinc 2 1, 3) := dk_132 2 1 (dk_at dksX8_hasChoice_1 12 rfl rfl)
theorem dX8_hasChoice_37 : decode cX8_hasChoice 37 = .ok (.goto (-33), 3) := dk_167 255 223 (dk_at dksX8_hasChoice_1 15 rfl rfl)
theorem dX8_hasChoice_40 : decode cX8_hasChoice 40 = .ok (.iload_n 1, 1) := dk_27 (dk_at dksX8_hasChoice_1 18 rfl rfl)
theorem dX8_hasChoice_41 : decode cX8_hasChoice 41 = .ok (.ireturn, 1) := dk_172 (dk_at dksX8_hasChoice_1 19 rfl rfl)
abbrev cX8_adds_2 : ByteArray := prog_3_method_3_code
def yX8_adds_2 : MethodName := ⟨RX8, "adds", "(LLoanNames$All;)V"⟩
def dkwX8_adds_2_1 : List UInt8 := [167, 255, 235, 177]
abbrev dktX8_adds_2_1 : List UInt8 := dkwX8_adds_2_1 ++ []
def dkwX8_adds_2_0 : List UInt8 := [3, 61, 28, 43, 180, 0, 15, 162, 0, 19, 42, 43, 180, 0, 9, 28, 50, 182, 0, 25, 132, 2, 1]
abbrev dktX8_adds_2_0 : List UInt8 := dkwX8_adds_2_0 ++ dktX8_adds_2_1
theorem dksX8_adds_2_0 : cX8_adds_2.data.toList.drop 0 = dktX8_adds_2_0 := by decide +kernel
theorem dksX8_adds_2_1 : cX8_adds_2.data.toList.drop 23 = dktX8_adds_2_1 := dk_seg dksX8_adds_2_0 23 rfl rfl
theorem dX8_adds_2_0 : decode cX8_adds_2 0 = .ok (.iconst 0, 1) := dk_3 (dk_at dksX8_adds_2_0 0 rfl rfl)
theorem dX8_adds_2_1 : decode cX8_adds_2 1 = .ok (.istore_n 2, 1) := dk_61 (dk_at dksX8_adds_2_0 1 rfl rfl)
theorem dX8_adds_2_2 : decode cX8_adds_2 2 = .ok (.iload_n 2, 1) := dk_28 (dk_at dksX8_adds_2_0 2 rfl rfl)
theorem dX8_adds_2_3 : decode cX8_adds_2 3 = .ok (.aload_n 1, 1) := dk_43 (dk_at dksX8_adds_2_0 3 rfl rfl)
theorem dX8_adds_2_4 : decode cX8_adds_2 4 = .ok (.getfield 15, 3) := dk_180 0 15 (dk_at dksX8_adds_2_0 4 rfl rfl)
theorem dX8_adds_2_7 : decode cX8_adds_2 7 = .ok (.if_icmp .ge 19, 3) := dk_162 0 19 (dk_at dksX8_adds_2_0 7 rfl rfl)
theorem dX8_adds_2_10 : decode cX8_adds_2 10 = .ok (.aload_n 0, 1) := dk_42 (dk_at dksX8_adds_2_0 10 rfl rfl)
theorem dX8_adds_2_11 : decode cX8_adds_2 11 = .ok (.aload_n 1, 1) := dk_43 (dk_at dksX8_adds_2_0 11 rfl rfl)
theorem dX8_adds_2_12 : decode cX8_adds_2 12 = .ok (.getfield 9, 3) := dk_180 0 9 (dk_at dksX8_adds_2_0 12 rfl rfl)
theorem dX8_adds_2_15 : decode cX8_adds_2 15 = .ok (.iload_n 2, 1) := dk_28 (dk_at dksX8_adds_2_0 15 rfl rfl)
theorem dX8_adds_2_16 : decode cX8_adds_2 16 = .ok (.aaload, 1) := dk_50 (dk_at dksX8_adds_2_0 16 rfl rfl)
theorem dX8_adds_2_17 : decode cX8_adds_2 17 = .ok (.invokevirtual 25, 3) := dk_182 0 25 (dk_at dksX8_adds_2_0 17 rfl rfl)
theorem dX8_adds_2_20 : decode cX8_adds_2 20 = .ok (.iinc 2 1, 3) := dk_132 2 1 (dk_at dksX8_adds_2_0 20 rfl rfl)
theorem dX8_adds_2_23 : decode cX8_adds_2 23 = .ok (.goto (-21), 3) := dk_167 255 235 (dk_at dksX8_adds_2_1 0 rfl rfl)
theorem dX8_adds_2_26 : decode cX8_adds_2 26 = .ok (.return_, 1) := dk_177 (dk_at dksX8_adds_2_1 3 rfl rfl)
abbrev cX8_passes : ByteArray := prog_3_method_4_code
def yX8_passes : MethodName := ⟨RX8, "passes", "(LLoanNames$Sink;IJI)V"⟩
def dkwX8_passes_1 : List UInt8 := [182, 0, 29, 132, 6, 1, 167, 255, 229, 177]
abbrev dktX8_passes_1 : List UInt8 := dkwX8_passes_1 ++ []
def dkwX8_passes_0 : List UInt8 := [3, 54, 6, 21, 6, 42, 180, 0, 15, 162, 0, 24, 42, 180, 0, 9, 21, 6, 50, 43, 28, 33, 21, 5]
abbrev dktX8_passes_0 : List UInt8 := dkwX8_passes_0 ++ dktX8_passes_1
theorem dksX8_passes_0 : cX8_passes.data.toList.drop 0 = dktX8_passes_0 := by decide +kernel
theorem dksX8_passes_1 : cX8_passes.data.toList.drop 24 = dktX8_passes_1 := dk_seg dksX8_passes_0 24 rfl rfl
theorem dX8_passes_0 : decode cX8_passes 0 = .ok (.iconst 0, 1) := dk_3 (dk_at dksX8_passes_0 0 rfl rfl)
theorem dX8_passes_1 : decode cX8_passes 1 = .ok (.istore 6, 2) := dk_54 6 (dk_at dksX8_passes_0 1 rfl rfl)
theorem dX8_passes_3 : decode cX8_passes 3 = .ok (.iload 6, 2) := dk_21 6 (dk_at dksX8_passes_0 3 rfl rfl)
theorem dX8_passes_5 : decode cX8_passes 5 = .ok (.aload_n 0, 1) := dk_42 (dk_at dksX8_passes_0 5 rfl rfl)
theorem dX8_passes_6 : decode cX8_passes 6 = .ok (.getfield 15, 3) := dk_180 0 15 (dk_at dksX8_passes_0 6 rfl rfl)
theorem dX8_passes_9 : decode cX8_passes 9 = .ok (.if_icmp .ge 24, 3) := dk_162 0 24 (dk_at dksX8_passes_0 9 rfl rfl)
theorem dX8_passes_12 : decode cX8_passes 12 = .ok (.aload_n 0, 1) := dk_42 (dk_at dksX8_passes_0 12 rfl rfl)
theorem dX8_passes_13 : decode cX8_passes 13 = .ok (.getfield 9, 3) := dk_180 0 9 (dk_at dksX8_passes_0 13 rfl rfl)
theorem dX8_passes_16 : decode cX8_passes 16 = .ok (.iload 6, 2) := dk_21 6 (dk_at dksX8_passes_0 16 rfl rfl)
theorem dX8_passes_18 : decode cX8_passes 18 = .ok (.aaload, 1) := dk_50 (dk_at dksX8_passes_0 18 rfl rfl)
theorem dX8_passes_19 : decode cX8_passes 19 = .ok (.aload_n 1, 1) := dk_43 (dk_at dksX8_passes_0 19 rfl rfl)
theorem dX8_passes_20 : decode cX8_passes 20 = .ok (.iload_n 2, 1) := dk_28 (dk_at dksX8_passes_0 20 rfl rfl)
theorem dX8_passes_21 : decode cX8_passes 21 = .ok (.lload_n 3, 1) := dk_33 (dk_at dksX8_passes_0 21 rfl rfl)
theorem dX8_passes_22 : decode cX8_passes 22 = .ok (.iload 5, 2) := dk_21 5 (dk_at dksX8_passes_0 22 rfl rfl)
theorem dX8_passes_24 : decode cX8_passes 24 = .ok (.invokevirtual 29, 3) := dk_182 0 29 (dk_at dksX8_passes_1 0 rfl rfl)
theorem dX8_passes_27 : decode cX8_passes 27 = .ok (.iinc 6 1, 3) := dk_132 6 1 (dk_at dksX8_passes_1 3 rfl rfl)
theorem dX8_passes_30 : decode cX8_passes 30 = .ok (.goto (-27), 3) := dk_167 255 229 (dk_at dksX8_passes_1 6 rfl rfl)
theorem dX8_passes_33 : decode cX8_passes 33 = .ok (.return_, 1) := dk_177 (dk_at dksX8_passes_1 9 rfl rfl)
theorem q99 : (Jvm.Cond.initialized "LoanNames$All") ∈ lw_all := lw_g (lw_at lw_m1 9 rfl) rfl
theorem q416 : (Jvm.Cond.instantiable "LoanNames$All" (2 : Nat)) ∈ lw_all := lw_g (lw_at lw_m2 86 rfl) rfl
theorem q418 : (Jvm.Cond.instanceMethod ({ cls := "LoanNames$All", name := "<init>", desc := "()V" } : Jvm.MethodName)) ∈ lw_all := lw_g (lw_at lw_m2 88 rfl) rfl
theorem q419 : (Jvm.Cond.code ({ cls := "LoanNames$All", name := "<init>", desc := "()V" } : Jvm.MethodName) prog_3_method_1_code (1 : Nat) (Option.none : Option Jvm.ClassFile.FieldType)) ∈ lw_all := lw_g (lw_at lw_m2 89 rfl) rfl
theorem q420 : (Jvm.Cond.methodLink "LoanNames$All" (1 : Nat) ({ cls := "java/lang/Object", name := "<init>", desc := "()V" } : Jvm.MethodName)) ∈ lw_all := lw_g (lw_at lw_m2 90 rfl) rfl
theorem q421 : (Jvm.Cond.classLink "LoanNames$All" (7 : Nat) "LoanNames$Part") ∈ lw_all := lw_g (lw_at lw_m2 91 rfl) rfl
theorem q423 : (Jvm.Cond.fieldLink "LoanNames$All" (9 : Nat) "LoanNames$All" "parts" "[LLoanNames$Part;") ∈ lw_all := lw_g (lw_at lw_m2 93 rfl) rfl
theorem q425 : (Jvm.Cond.fieldLink "LoanNames$All" (15 : Nat) "LoanNames$All" "many" "I") ∈ lw_all := lw_g (lw_at lw_m2 95 rfl) rfl
theorem q428 : (Jvm.Cond.lays "LoanNames$All" "LoanNames$All" "parts" "[LLoanNames$Part;") ∈ lw_all := lw_g (lw_at lw_m2 98 rfl) rfl
theorem q429 : (Jvm.Cond.soleField "LoanNames$All" "parts") ∈ lw_all := lw_g (lw_at lw_m2 99 rfl) rfl
theorem q430 : (Jvm.Cond.lays "LoanNames$All" "LoanNames$All" "many" "I") ∈ lw_all := lw_g (lw_at lw_m2 100 rfl) rfl
theorem q431 : (Jvm.Cond.soleField "LoanNames$All" "many") ∈ lw_all := lw_g (lw_at lw_m2 101 rfl) rfl
theorem q432 : (Jvm.Cond.superclass "LoanNames$All" "java/lang/Object") ∈ lw_all := lw_g (lw_at lw_m2 102 rfl) rfl
theorem q680 : (Jvm.Cond.instanceMethod ({ cls := "LoanNames$All", name := "adds", desc := "(LLoanNames$Part;)V" } : Jvm.MethodName)) ∈ lw_all := lw_g (lw_at lw_m3 110 rfl) rfl
theorem q681 : (Jvm.Cond.selects "LoanNames$All" ({ cls := "LoanNames$All", name := "adds", desc := "(LLoanNames$Part;)V" } : Jvm.MethodName) ({ cls := "LoanNames$All", name := "adds", desc := "(LLoanNames$Part;)V" } : Jvm.MethodName)) ∈ lw_all := lw_g (lw_at lw_m3 111 rfl) rfl
theorem q682 : (Jvm.Cond.code ({ cls := "LoanNames$All", name := "adds", desc := "(LLoanNames$Part;)V" } : Jvm.MethodName) prog_3_method_2_code (3 : Nat) (Option.none : Option Jvm.ClassFile.FieldType)) ∈ lw_all := lw_g (lw_at lw_m3 112 rfl) rfl
theorem q683 : (Jvm.Cond.methodLink "LoanNames$All" (19 : Nat) ({ cls := "java/lang/System", name := "arraycopy", desc := "(Ljava/lang/Object;ILjava/lang/Object;II)V" } : Jvm.MethodName)) ∈ lw_all := lw_g (lw_at lw_m3 113 rfl) rfl
theorem q701 : (Jvm.Cond.instanceMethod ({ cls := "LoanNames$All", name := "leaves", desc := "(LLoanNames$LeafRow;I)V" } : Jvm.MethodName)) ∈ lw_all := lw_g (lw_at lw_m3 131 rfl) rfl
theorem q702 : (Jvm.Cond.selects "LoanNames$All" ({ cls := "LoanNames$All", name := "leaves", desc := "(LLoanNames$LeafRow;I)V" } : Jvm.MethodName) ({ cls := "LoanNames$All", name := "leaves", desc := "(LLoanNames$LeafRow;I)V" } : Jvm.MethodName)) ∈ lw_all := lw_g (lw_at lw_m3 132 rfl) rfl
theorem q703 : (Jvm.Cond.code ({ cls := "LoanNames$All", name := "leaves", desc := "(LLoanNames$LeafRow;I)V" } : Jvm.MethodName) prog_3_method_5_code (4 : Nat) (Option.none : Option Jvm.ClassFile.FieldType)) ∈ lw_all := lw_g (lw_at lw_m3 133 rfl) rfl
theorem q704 : (Jvm.Cond.methodLink "LoanNames$All" (33 : Nat) ({ cls := "LoanNames$Part", name := "leaves", desc := "(LLoanNames$LeafRow;I)V" } : Jvm.MethodName)) ∈ lw_all := lw_g (lw_at lw_m3 134 rfl) rfl
theorem q944 : (Jvm.Cond.instanceMethod ({ cls := "LoanNames$All", name := "plain", desc := "(LLoanNames$Plain;)LLoanNames$All;" } : Jvm.MethodName)) ∈ lw_all := lw_g (lw_at lw_m4 134 rfl) rfl
theorem q945 : (Jvm.Cond.selects "LoanNames$All" ({ cls := "LoanNames$All", name := "plain", desc := "(LLoanNames$Plain;)LLoanNames$All;" } : Jvm.MethodName) ({ cls := "LoanNames$All", name := "plain", desc := "(LLoanNames$Plain;)LLoanNames$All;" } : Jvm.MethodName)) ∈ lw_all := lw_g (lw_at lw_m4 135 rfl) rfl
theorem q946 : (Jvm.Cond.code ({ cls := "LoanNames$All", name := "plain", desc := "(LLoanNames$Plain;)LLoanNames$All;" } : Jvm.MethodName) prog_3_method_8_code (4 : Nat) (Option.some (Jvm.ClassFile.FieldType.object "LoanNames$All"))) ∈ lw_all := lw_g (lw_at lw_m4 136 rfl) rfl
theorem q947 : (Jvm.Cond.classLink "LoanNames$All" (10 : Nat) "LoanNames$All") ∈ lw_all := lw_g (lw_at lw_m4 137 rfl) rfl
theorem q948 : (Jvm.Cond.methodLink "LoanNames$All" (45 : Nat) ({ cls := "LoanNames$All", name := "<init>", desc := "()V" } : Jvm.MethodName)) ∈ lw_all := lw_g (lw_at lw_m4 138 rfl) rfl
theorem q949 : (Jvm.Cond.methodLink "LoanNames$All" (46 : Nat) ({ cls := "LoanNames$Part", name := "plain", desc := "(LLoanNames$Plain;)LLoanNames$All;" } : Jvm.MethodName)) ∈ lw_all := lw_g (lw_at lw_m4 139 rfl) rfl
theorem q972 : (Jvm.Cond.instanceMethod ({ cls := "LoanNames$All", name := "isLike", desc := "(LLoanNames$All;)Z" } : Jvm.MethodName)) ∈ lw_all := lw_g (lw_at lw_m4 162 rfl) rfl
theorem q973 : (Jvm.Cond.selects "LoanNames$All" ({ cls := "LoanNames$All", name := "isLike", desc := "(LLoanNames$All;)Z" } : Jvm.MethodName) ({ cls := "LoanNames$All", name := "isLike", desc := "(LLoanNames$All;)Z" } : Jvm.MethodName)) ∈ lw_all := lw_g (lw_at lw_m4 163 rfl) rfl
theorem q974 : (Jvm.Cond.code ({ cls := "LoanNames$All", name := "isLike", desc := "(LLoanNames$All;)Z" } : Jvm.MethodName) prog_3_method_7_code (3 : Nat) (Option.some Jvm.ClassFile.FieldType.boolean)) ∈ lw_all := lw_g (lw_at lw_m4 164 rfl) rfl
theorem q975 : (Jvm.Cond.methodLink "LoanNames$All" (41 : Nat) ({ cls := "LoanNames$Part", name := "isLike", desc := "(LLoanNames$Part;)Z" } : Jvm.MethodName)) ∈ lw_all := lw_g (lw_at lw_m4 165 rfl) rfl
theorem q1013 : (Jvm.Cond.instanceMethod ({ cls := "LoanNames$All", name := "hasChoice", desc := "()Z" } : Jvm.MethodName)) ∈ lw_all := lw_g (lw_at lw_m4 203 rfl) rfl
theorem q1014 : (Jvm.Cond.selects "LoanNames$All" ({ cls := "LoanNames$All", name := "hasChoice", desc := "()Z" } : Jvm.MethodName) ({ cls := "LoanNames$All", name := "hasChoice", desc := "()Z" } : Jvm.MethodName)) ∈ lw_all := lw_g (lw_at lw_m4 204 rfl) rfl
theorem q1015 : (Jvm.Cond.code ({ cls := "LoanNames$All", name := "hasChoice", desc := "()Z" } : Jvm.MethodName) prog_3_method_6_code (3 : Nat) (Option.some Jvm.ClassFile.FieldType.boolean)) ∈ lw_all := lw_g (lw_at lw_m4 205 rfl) rfl
theorem q1016 : (Jvm.Cond.methodLink "LoanNames$All" (37 : Nat) ({ cls := "LoanNames$Part", name := "hasChoice", desc := "()Z" } : Jvm.MethodName)) ∈ lw_all := lw_g (lw_at lw_m4 206 rfl) rfl
theorem q1074 : (Jvm.Cond.methodLink "LoanNames$All" (50 : Nat) ({ cls := "LoanNames$All", name := "adds", desc := "(LLoanNames$All;)V" } : Jvm.MethodName)) ∈ lw_all := lw_g (lw_at lw_m5 24 rfl) rfl
theorem q1075 : (Jvm.Cond.instanceMethod ({ cls := "LoanNames$All", name := "adds", desc := "(LLoanNames$All;)V" } : Jvm.MethodName)) ∈ lw_all := lw_g (lw_at lw_m5 25 rfl) rfl
theorem q1076 : (Jvm.Cond.selects "LoanNames$All" ({ cls := "LoanNames$All", name := "adds", desc := "(LLoanNames$All;)V" } : Jvm.MethodName) ({ cls := "LoanNames$All", name := "adds", desc := "(LLoanNames$All;)V" } : Jvm.MethodName)) ∈ lw_all := lw_g (lw_at lw_m5 26 rfl) rfl
theorem q1077 : (Jvm.Cond.code ({ cls := "LoanNames$All", name := "adds", desc := "(LLoanNames$All;)V" } : Jvm.MethodName) prog_3_method_3_code (3 : Nat) (Option.none : Option Jvm.ClassFile.FieldType)) ∈ lw_all := lw_g (lw_at lw_m5 27 rfl) rfl
theorem q1078 : (Jvm.Cond.methodLink "LoanNames$All" (25 : Nat) ({ cls := "LoanNames$All", name := "adds", desc := "(LLoanNames$Part;)V" } : Jvm.MethodName)) ∈ lw_all := lw_g (lw_at lw_m5 28 rfl) rfl
theorem q1092 : (Jvm.Cond.instanceMethod ({ cls := "LoanNames$All", name := "passes", desc := "(LLoanNames$Sink;IJI)V" } : Jvm.MethodName)) ∈ lw_all := lw_g (lw_at lw_m5 42 rfl) rfl
theorem q1093 : (Jvm.Cond.selects "LoanNames$All" ({ cls := "LoanNames$All", name := "passes", desc := "(LLoanNames$Sink;IJI)V" } : Jvm.MethodName) ({ cls := "LoanNames$All", name := "passes", desc := "(LLoanNames$Sink;IJI)V" } : Jvm.MethodName)) ∈ lw_all := lw_g (lw_at lw_m5 43 rfl) rfl
theorem q1094 : (Jvm.Cond.code ({ cls := "LoanNames$All", name := "passes", desc := "(LLoanNames$Sink;IJI)V" } : Jvm.MethodName) prog_3_method_4_code (7 : Nat) (Option.none : Option Jvm.ClassFile.FieldType)) ∈ lw_all := lw_g (lw_at lw_m5 44 rfl) rfl
theorem q1095 : (Jvm.Cond.methodLink "LoanNames$All" (29 : Nat) ({ cls := "LoanNames$Part", name := "passes", desc := "(LLoanNames$Sink;IJI)V" } : Jvm.MethodName)) ∈ lw_all := lw_g (lw_at lw_m5 45 rfl) rfl
theorem in_X8 : ∀ w ∈ wsX80, w ∈ lw_all := lw_in wsX80 [428, 430] (by decide +kernel) (by decide +kernel)
/-! LoanNames$Part -/
set_option maxRecDepth 100000
def RX9 : String := "LoanNames$Part"
abbrev cX9_init : ByteArray := prog_15_method_1_code
def yX9_init : MethodName := ⟨RX9, "<init>", "()V"⟩
theorem dX9_init_0 : decode cX9_init 0 = .ok (.aload_n 0, 1) := by decide +kernel
theorem dX9_init_1 : decode cX9_init 1 = .ok (.invokespecial 1, 3) := by decide +kernel
theorem dX9_init_4 : decode cX9_init 4 = .ok (.return_, 1) := by decide +kernel
abbrev cX9_alone : ByteArray := prog_15_method_7_code
def yX9_alone : MethodName := ⟨RX9, "alone", "()LLoanNames$All;"⟩
def dkwX9_alone_0 : List UInt8 := [187, 0, 7, 89, 183, 0, 9, 76, 43, 42, 182, 0, 10, 43, 176]
abbrev dktX9_alone_0 : List UInt8 := dkwX9_alone_0 ++ []
theorem dksX9_alone_0 : cX9_alone.data.toList.drop 0 = dktX9_alone_0 := by decide +kernel
theorem dX9_alone_0 : decode cX9_alone 0 = .ok (.new 7, 3) := dk_187 0 7 (dk_at dksX9_alone_0 0 rfl rfl)
theorem dX9_alone_3 : decode cX9_alone 3 = .ok (.dup, 1) := dk_89 (dk_at dksX9_alone_0 3 rfl rfl)
theorem dX9_alone_4 : decode cX9_alone 4 = .ok (.invokespecial 9, 3) := dk_183 0 9 (dk_at dksX9_alone_0 4 rfl rfl)
theorem dX9_alone_7 : decode cX9_alone 7 = .ok (.astore_n 1, 1) := dk_76 (dk_at dksX9_alone_0 7 rfl rfl)
theorem dX9_alone_8 : decode cX9_alone 8 = .ok (.aload_n 1, 1) := dk_43 (dk_at dksX9_alone_0 8 rfl rfl)
theorem dX9_alone_9 : decode cX9_alone 9 = .ok (.aload_n 0, 1) := dk_42 (dk_at dksX9_alone_0 9 rfl rfl)
theorem dX9_alone_10 : decode cX9_alone 10 = .ok (.invokevirtual 10, 3) := dk_182 0 10 (dk_at dksX9_alone_0 10 rfl rfl)
theorem dX9_alone_13 : decode cX9_alone 13 = .ok (.aload_n 1, 1) := dk_43 (dk_at dksX9_alone_0 13 rfl rfl)
theorem dX9_alone_14 : decode cX9_alone 14 = .ok (.areturn, 1) := dk_176 (dk_at dksX9_alone_0 14 rfl rfl)
theorem q100 : (Jvm.Cond.initialized "LoanNames$Part") ∈ lw_all := lw_g (lw_at lw_m1 10 rfl) rfl
theorem q507 : (Jvm.Cond.instanceMethod ({ cls := "LoanNames$Part", name := "<init>", desc := "()V" } : Jvm.MethodName)) ∈ lw_all := lw_g (lw_at lw_m2 177 rfl) rfl
theorem q508 : (Jvm.Cond.code ({ cls := "LoanNames$Part", name := "<init>", desc := "()V" } : Jvm.MethodName) prog_15_method_1_code (1 : Nat) (Option.none : Option Jvm.ClassFile.FieldType)) ∈ lw_all := lw_g (lw_at lw_m2 178 rfl) rfl
theorem q509 : (Jvm.Cond.methodLink "LoanNames$Part" (1 : Nat) ({ cls := "java/lang/Object", name := "<init>", desc := "()V" } : Jvm.MethodName)) ∈ lw_all := lw_g (lw_at lw_m2 179 rfl) rfl
theorem q705 : (Jvm.Cond.declares ({ cls := "LoanNames$Part", name := "leaves", desc := "(LLoanNames$LeafRow;I)V" } : Jvm.MethodName)) ∈ lw_tbl := lw_at lw_m3 135 rfl
theorem q706 : (Jvm.Cond.sameMethod "LoanNames$Part" "LoanNames$Part" "leaves" "(LLoanNames$LeafRow;I)V") ∈ lw_all := lw_g (lw_at lw_m3 136 rfl) rfl
theorem q950 : (Jvm.Cond.declares ({ cls := "LoanNames$Part", name := "plain", desc := "(LLoanNames$Plain;)LLoanNames$All;" } : Jvm.MethodName)) ∈ lw_tbl := lw_at lw_m4 140 rfl
theorem q951 : (Jvm.Cond.sameMethod "LoanNames$Part" "LoanNames$Part" "plain" "(LLoanNames$Plain;)LLoanNames$All;") ∈ lw_all := lw_g (lw_at lw_m4 141 rfl) rfl
theorem q960 : (Jvm.Cond.declares ({ cls := "LoanNames$Part", name := "alone", desc := "()LLoanNames$All;" } : Jvm.MethodName)) ∈ lw_tbl := lw_at lw_m4 150 rfl
theorem q962 : (Jvm.Cond.instanceMethod ({ cls := "LoanNames$Part", name := "alone", desc := "()LLoanNames$All;" } : Jvm.MethodName)) ∈ lw_all := lw_g (lw_at lw_m4 152 rfl) rfl
theorem q963 : (Jvm.Cond.code ({ cls := "LoanNames$Part", name := "alone", desc := "()LLoanNames$All;" } : Jvm.MethodName) prog_15_method_7_code (2 : Nat) (Option.some (Jvm.ClassFile.FieldType.object "LoanNames$All"))) ∈ lw_all := lw_g (lw_at lw_m4 153 rfl) rfl
theorem q964 : (Jvm.Cond.classLink "LoanNames$Part" (7 : Nat) "LoanNames$All") ∈ lw_all := lw_g (lw_at lw_m4 154 rfl) rfl
theorem q965 : (Jvm.Cond.methodLinkNest "LoanNames$Part" (9 : Nat) ({ cls := "LoanNames$All", name := "<init>", desc := "()V" } : Jvm.MethodName) "LoanNames") ∈ lw_tbl := lw_at lw_m4 155 rfl
theorem q966 : (Jvm.Cond.methodLink "LoanNames$Part" (10 : Nat) ({ cls := "LoanNames$All", name := "adds", desc := "(LLoanNames$Part;)V" } : Jvm.MethodName)) ∈ lw_all := lw_g (lw_at lw_m4 156 rfl) rfl
theorem q976 : (Jvm.Cond.declares ({ cls := "LoanNames$Part", name := "isLike", desc := "(LLoanNames$Part;)Z" } : Jvm.MethodName)) ∈ lw_tbl := lw_at lw_m4 166 rfl
theorem q977 : (Jvm.Cond.sameMethod "LoanNames$Part" "LoanNames$Part" "isLike" "(LLoanNames$Part;)Z") ∈ lw_all := lw_g (lw_at lw_m4 167 rfl) rfl
theorem q1017 : (Jvm.Cond.declares ({ cls := "LoanNames$Part", name := "hasChoice", desc := "()Z" } : Jvm.MethodName)) ∈ lw_tbl := lw_at lw_m4 207 rfl
theorem q1018 : (Jvm.Cond.sameMethod "LoanNames$Part" "LoanNames$Part" "hasChoice" "()Z") ∈ lw_all := lw_g (lw_at lw_m4 208 rfl) rfl
theorem q1096 : (Jvm.Cond.declares ({ cls := "LoanNames$Part", name := "passes", desc := "(LLoanNames$Sink;IJI)V" } : Jvm.MethodName)) ∈ lw_tbl := lw_at lw_m5 46 rfl
theorem q1097 : (Jvm.Cond.sameMethod "LoanNames$Part" "LoanNames$Part" "passes" "(LLoanNames$Sink;IJI)V") ∈ lw_all := lw_g (lw_at lw_m5 47 rfl) rfl
/-! LoanNames$Leaf -/
set_option maxRecDepth 100000
def RX10 : String := "LoanNames$Leaf"
abbrev cX10_init : ByteArray := prog_13_method_1_code
def yX10_init : MethodName := ⟨RX10, "<init>", "(IIIII)V"⟩
def dkwX10_init_1 : List UInt8 := [181, 0, 19, 42, 21, 5, 181, 0, 22, 177]
abbrev dktX10_init_1 : List UInt8 := dkwX10_init_1 ++ []
def dkwX10_init_0 : List UInt8 := [42, 183, 0, 1, 42, 27, 181, 0, 7, 42, 28, 181, 0, 13, 42, 29, 181, 0, 16, 42, 21, 4]
abbrev dktX10_init_0 : List UInt8 := dkwX10_init_0 ++ dktX10_init_1
theorem dksX10_init_0 : cX10_init.data.toList.drop 0 = dktX10_init_0 := by decide +kernel
theorem dksX10_init_1 : cX10_init.data.toList.drop 22 = dktX10_init_1 := dk_seg dksX10_init_0 22 rfl rfl
theorem dX10_init_0 : decode cX10_init 0 = .ok (.aload_n 0, 1) := dk_42 (dk_at dksX10_init_0 0 rfl rfl)
theorem dX10_init_1 : decode cX10_init 1 = .ok (.invokespecial 1, 3) := dk_183 0 1 (dk_at dksX10_init_0 1 rfl rfl)
theorem dX10_init_4 : decode cX10_init 4 = .ok (.aload_n 0, 1) := dk_42 (dk_at dksX10_init_0 4 rfl rfl)
theorem dX10_init_5 : decode cX10_init 5 = .ok (.iload_n 1, 1) := dk_27 (dk_at dksX10_init_0 5 rfl rfl)
theorem dX10_init_6 : decode cX10_init 6 = .ok (.putfield 7, 3) := dk_181 0 7 (dk_at dksX10_init_0 6 rfl rfl)
theorem dX10_init_9 : decode cX10_init 9 = .ok (.aload_n 0, 1) := dk_42 (dk_at dksX10_init_0 9 rfl rfl)
theorem dX10_init_10 : decode cX10_init 10 = .ok (.iload_n 2, 1) := dk_28 (dk_at dksX10_init_0 10 rfl rfl)
theorem dX10_init_11 : decode cX10_init 11 = .ok (.putfield 13, 3) := dk_181 0 13 (dk_at dksX10_init_0 11 rfl rfl)
theorem dX10_init_14 : decode cX10_init 14 = .ok (.aload_n 0, 1) := dk_42 (dk_at dksX10_init_0 14 rfl rfl)
theorem dX10_init_15 : decode cX10_init 15 = .ok (.iload_n 3, 1) := dk_29 (dk_at dksX10_init_0 15 rfl rfl)
theorem dX10_init_16 : decode cX10_init 16 = .ok (.putfield 16, 3) := dk_181 0 16 (dk_at dksX10_init_0 16 rfl rfl)
theorem dX10_init_19 : decode cX10_init 19 = .ok (.aload_n 0, 1) := dk_42 (dk_at dksX10_init_0 19 rfl rfl)
theorem dX10_init_20 : decode cX10_init 20 = .ok (.iload 4, 2) := dk_21 4 (dk_at dksX10_init_0 20 rfl rfl)
theorem dX10_init_22 : decode cX10_init 22 = .ok (.putfield 19, 3) := dk_181 0 19 (dk_at dksX10_init_1 0 rfl rfl)
theorem dX10_init_25 : decode cX10_init 25 = .ok (.aload_n 0, 1) := dk_42 (dk_at dksX10_init_1 3 rfl rfl)
theorem dX10_init_26 : decode cX10_init 26 = .ok (.iload 5, 2) := dk_21 5 (dk_at dksX10_init_1 4 rfl rfl)
theorem dX10_init_28 : decode cX10_init 28 = .ok (.putfield 22, 3) := dk_181 0 22 (dk_at dksX10_init_1 6 rfl rfl)
theorem dX10_init_31 : decode cX10_init 31 = .ok (.return_, 1) := dk_177 (dk_at dksX10_init_1 9 rfl rfl)
abbrev cX10_leaves : ByteArray := prog_13_method_6_code
def yX10_leaves : MethodName := ⟨RX10, "leaves", "(LLoanNames$LeafRow;I)V"⟩
def dkwX10_leaves_0 : List UInt8 := [43, 42, 28, 182, 0, 31, 177]
abbrev dktX10_leaves_0 : List UInt8 := dkwX10_leaves_0 ++ []
theorem dksX10_leaves_0 : cX10_leaves.data.toList.drop 0 = dktX10_leaves_0 := by decide +kernel
theorem dX10_leaves_0 : decode cX10_leaves 0 = .ok (.aload_n 1, 1) := dk_43 (dk_at dksX10_leaves_0 0 rfl rfl)
theorem dX10_leaves_1 : decode cX10_leaves 1 = .ok (.aload_n 0, 1) := dk_42 (dk_at dksX10_leaves_0 1 rfl rfl)
theorem dX10_leaves_2 : decode cX10_leaves 2 = .ok (.iload_n 2, 1) := dk_28 (dk_at dksX10_leaves_0 2 rfl rfl)
theorem dX10_leaves_3 : decode cX10_leaves 3 = .ok (.invokevirtual 31, 3) := dk_182 0 31 (dk_at dksX10_leaves_0 3 rfl rfl)
theorem dX10_leaves_6 : decode cX10_leaves 6 = .ok (.return_, 1) := dk_177 (dk_at dksX10_leaves_0 6 rfl rfl)
abbrev cX10_forCoin : ByteArray := prog_13_method_3_code
def yX10_forCoin : MethodName := ⟨RX10, "forCoin", "()I"⟩
theorem dX10_forCoin_0 : decode cX10_forCoin 0 = .ok (.iconst 0, 1) := by decide +kernel
theorem dX10_forCoin_1 : decode cX10_forCoin 1 = .ok (.ireturn, 1) := by decide +kernel
abbrev cX10_until : ByteArray := prog_13_method_4_code
def yX10_until : MethodName := ⟨RX10, "until", "()I"⟩
theorem dX10_until_0 : decode cX10_until 0 = .ok (.aload_n 0, 1) := by decide +kernel
theorem dX10_until_1 : decode cX10_until 1 = .ok (.getfield 22, 3) := by decide +kernel
theorem dX10_until_4 : decode cX10_until 4 = .ok (.ireturn, 1) := by decide +kernel
abbrev cX10_isLike : ByteArray := prog_13_method_8_code
def yX10_isLike : MethodName := ⟨RX10, "isLike", "(LLoanNames$Part;)Z"⟩
def dkwX10_isLike_4 : List UInt8 := [160, 0, 18, 44, 182, 0, 43, 42, 182, 0, 43, 160, 0, 7, 4, 167, 0, 4, 3, 172]
abbrev dktX10_isLike_4 : List UInt8 := dkwX10_isLike_4 ++ []
def dkwX10_isLike_3 : List UInt8 := [160, 0, 40, 44, 180, 0, 22, 42, 180, 0, 22, 160, 0, 29, 44, 182, 0, 40, 42, 182, 0, 40]
abbrev dktX10_isLike_3 : List UInt8 := dkwX10_isLike_3 ++ dktX10_isLike_4
def dkwX10_isLike_2 : List UInt8 := [160, 0, 62, 44, 180, 0, 16, 42, 180, 0, 16, 160, 0, 51, 44, 180, 0, 19, 42, 180, 0, 19]
abbrev dktX10_isLike_2 : List UInt8 := dkwX10_isLike_2 ++ dktX10_isLike_3
def dkwX10_isLike_1 : List UInt8 := [160, 0, 84, 44, 180, 0, 7, 42, 180, 0, 7, 160, 0, 73, 44, 180, 0, 13, 42, 180, 0, 13]
abbrev dktX10_isLike_1 : List UInt8 := dkwX10_isLike_1 ++ dktX10_isLike_2
def dkwX10_isLike_0 : List UInt8 := [43, 193, 0, 8, 154, 0, 5, 3, 172, 43, 192, 0, 8, 77, 44, 182, 0, 36, 42, 182, 0, 36]
abbrev dktX10_isLike_0 : List UInt8 := dkwX10_isLike_0 ++ dktX10_isLike_1
theorem dksX10_isLike_0 : cX10_isLike.data.toList.drop 0 = dktX10_isLike_0 := by decide +kernel
theorem dksX10_isLike_1 : cX10_isLike.data.toList.drop 22 = dktX10_isLike_1 := dk_seg dksX10_isLike_0 22 rfl rfl
theorem dksX10_isLike_2 : cX10_isLike.data.toList.drop 44 = dktX10_isLike_2 := dk_seg dksX10_isLike_1 22 rfl rfl
theorem dksX10_isLike_3 : cX10_isLike.data.toList.drop 66 = dktX10_isLike_3 := dk_seg dksX10_isLike_2 22 rfl rfl
theorem dksX10_isLike_4 : cX10_isLike.data.toList.drop 88 = dktX10_isLike_4 := dk_seg dksX10_isLike_3 22 rfl rfl
theorem dX10_isLike_0 : decode cX10_isLike 0 = .ok (.aload_n 1, 1) := dk_43 (dk_at dksX10_isLike_0 0 rfl rfl)
theorem dX10_isLike_1 : decode cX10_isLike 1 = .ok (.instanceof 8, 3) := dk_193 0 8 (dk_at dksX10_isLike_0 1 rfl rfl)
theorem dX10_isLike_4 : decode cX10_isLike 4 = .ok (.ifCond .ne 5, 3) := dk_154 0 5 (dk_at dksX10_isLike_0 4 rfl rfl)
theorem dX10_isLike_7 : decode cX10_isLike 7 = .ok (.iconst 0, 1) := dk_3 (dk_at dksX10_isLike_0 7 rfl rfl)
theorem dX10_isLike_8 : decode cX10_isLike 8 = .ok (.ireturn, 1) := dk_172 (dk_at dksX10_isLike_0 8 rfl rfl)
theorem dX10_isLike_9 : decode cX10_isLike 9 = .ok (.aload_n 1, 1) := dk_43 (dk_at dksX10_isLike_0 9 rfl rfl)
theorem dX10_isLike_10 : decode cX10_isLike 10 = .ok (.checkcast 8, 3) := dk_192 0 8 (dk_at dksX10_isLike_0 10 rfl rfl)
theorem dX10_isLike_13 : decode cX10_isLike 13 = .ok (.astore_n 2, 1) := dk_77 (dk_at dksX10_isLike_0 13 rfl rfl)
theorem dX10_isLike_14 : decode cX10_isLike 14 = .ok (.aload_n 2, 1) := dk_44 (dk_at dksX10_isLike_0 14 rfl rfl)
theorem dX10_isLike_15 : decode cX10_isLike 15 = .ok (.invokevirtual 36, 3) := dk_182 0 36 (dk_at dksX10_isLike_0 15 rfl rfl)
theorem dX10_isLike_18 : decode cX10_isLike 18 = .ok (.aload_n 0, 1) := dk_42 (dk_at dksX10_isLike_0 18 rfl rfl)
theorem dX10_isLike_19 : decode cX10_isLike 19 = .ok (.invokevirtual 36, 3) := dk_182 0 36 (dk_at dksX10_isLike_0 19 rfl rfl)
theorem dX10_isLike_22 : decode cX10_isLike 22 = .ok (.if_icmp .ne 84, 3) := dk_160 0 84 (dk_at dksX10_isLike_1 0 rfl rfl)
theorem dX10_isLike_25 : decode cX10_isLike 25 = .ok (.aload_n 2, 1) := dk_44 (dk_at dksX10_isLike_1 3 rfl rfl)
theorem dX10_isLike_26 : decode cX10_isLike 26 = .ok (.getfield 7, 3) := dk_180 0 7 (dk_at dksX10_isLike_1 4 rfl rfl)
theorem dX10_isLike_29 : decode cX10_isLike 29 = .ok (.aload_n 0, 1) := dk_42 (dk_at dksX10_isLike_1 7 rfl rfl)
theorem dX10_isLike_30 : decode cX10_isLike 30 = .ok (.getfield 7, 3) := dk_180 0 7 (dk_at dksX10_isLike_1 8 rfl rfl)
theorem dX10_isLike_33 : decode cX10_isLike 33 = .ok (.if_icmp .ne 73, 3) := dk_160 0 73 (dk_at dksX10_isLike_1 11 rfl rfl)
theorem dX10_isLike_36 : decode cX10_isLike 36 = .ok (.aload_n 2, 1) := dk_44 (dk_at dksX10_isLike_1 14 rfl rfl)
theorem dX10_isLike_37 : decode cX10_isLike 37 = .ok (.getfield 13, 3) := dk_180 0 13 (dk_at dksX10_isLike_1 15 rfl rfl)
theorem dX10_isLike_40 : decode cX10_isLike 40 = .ok (.aload_n 0, 1) := dk_42 (dk_at dksX10_isLike_1 18 rfl rfl)
theorem dX10_isLike_41 : decode cX10_isLike 41 = .ok (.getfield 13, 3) := dk_180 0 13 (dk_at dksX10_isLike_1 19 rfl rfl)
theorem dX10_isLike_44 : decode cX10_isLike 44 = .ok (.if_icmp .ne 62, 3) := dk_160 0 62 (dk_at dksX10_isLike_2 0 rfl rfl)
theorem dX10_isLike_47 : decode cX10_isLike 47 = .ok (.aload_n 2, 1) := dk_44 (dk_at dksX10_isLike_2 3 rfl rfl)
theorem dX10_isLike_48 : decode cX10_isLike 48 = .ok (.getfield 16, 3) := dk_180 0 16 (dk_at dksX10_isLike_2 4 rfl rfl)
theorem dX10_isLike_51 : decode cX10_isLike 51 = .ok (.aload_n 0, 1) := dk_42 (dk_at dksX10_isLike_2 7 rfl rfl)
theorem dX10_isLike_52 : decode cX10_isLike 52 = .ok (.getfield 16, 3) := dk_180 0 16 (dk_at dksX10_isLike_2 8 rfl rfl)
theorem dX10_isLike_55 : decode cX10_isLike 55 = .ok (.if_icmp .ne 51, 3) := dk_160 0 51 (dk_at dksX10_isLike_2 11 rfl rfl)
theorem dX10_isLike_58 : decode cX10_isLike 58 = .ok (.aload_n 2, 1) := dk_44 (dk_at dksX10_isLike_2 14 rfl rfl)
theorem dX10_isLike_59 : decode cX10_isLike 59 = .ok (.getfield 19, 3) := dk_180 0 19 (dk_at dksX10_isLike_2 15 rfl rfl)
theorem dX10_isLike_62 : decode cX10_isLike 62 = .ok (.aload_n 0, 1) := dk_42 (dk_at dksX10_isLike_2 18 rfl rfl)
theorem dX10_isLike_63 : decode cX10_isLike 63 = .ok (.getfield 19, 3) := dk_180 0 19 (dk_at dksX10_isLike_2 19 rfl rfl)
theorem dX10_isLike_66 : decode cX10_isLike 66 = .ok (.if_icmp .ne 40, 3) := dk_160 0 40 (dk_at dksX10_isLike_3 0 rfl rfl)
theorem dX10_isLike_69 : decode cX10_isLike 69 = .ok (.aload_n 2, 1) := dk_44 (dk_at dksX10_isLike_3 3 rfl rfl)
theorem dX10_isLike_70 : decode cX10_isLike 70 = .ok (.getfield 22, 3) := dk_180 0 22 (dk_at dksX10_isLike_3 4 rfl rfl)
theorem dX10_isLike_73 : decode cX10_isLike 73 = .ok (.aload_n 0, 1) := dk_42 (dk_at dksX10_isLike_3 7 rfl rfl)
theorem dX10_isLike_74 : decode cX10_isLike 74 = .ok (.getfield 22, 3) := dk_180 0 22 (dk_at dksX10_isLike_3 8 rfl rfl)
theorem dX10_isLike_77 : decode cX10_isLike 77 = .ok (.if_icmp .ne 29, 3) := dk_160 0 29 (dk_at dksX10_isLike_3 11 rfl rfl)
theorem dX10_isLike_80 : decode cX10_isLike 80 = .ok (.aload_n 2, 1) := dk_44 (dk_at dksX10_isLike_3 14 rfl rfl)
theorem dX10_isLike_81 : decode cX10_isLike 81 = .ok (.invokevirtual 40, 3) := dk_182 0 40 (dk_at dksX10_isLike_3 15 rfl rfl)
theorem dX10_isLike_84 : decode cX10_isLike 84 = .ok (.aload_n 0, 1) := dk_42 (dk_at dksX10_isLike_3 18 rfl rfl)
theorem dX10_isLike_85 : decode cX10_isLike 85 = .ok (.invokevirtual 40, 3) := dk_182 0 40 (dk_at dksX10_isLike_3 19 rfl rfl)
theorem dX10_isLike_88 : decode cX10_isLike 88 = .ok (.if_icmp .ne 18, 3) := dk_160 0 18 (dk_at dksX10_isLike_4 0 rfl rfl)
theorem dX10_isLike_91 : decode cX10_isLike 91 = .ok (.aload_n 2, 1) := dk_44 (dk_at dksX10_isLike_4 3 rfl rfl)
theorem dX10_isLike_92 : decode cX10_isLike 92 = .ok (.invokevirtual 43, 3) := dk_182 0 43 (dk_at dksX10_isLike_4 4 rfl rfl)
theorem dX10_isLike_95 : decode cX10_isLike 95 = .ok (.aload_n 0, 1) := dk_42 (dk_at dksX10_isLike_4 7 rfl rfl)
theorem dX10_isLike_96 : decode cX10_isLike 96 = .ok (.invokevirtual 43, 3) := dk_182 0 43 (dk_at dksX10_isLike_4 8 rfl rfl)
theorem dX10_isLike_99 : decode cX10_isLike 99 = .ok (.if_icmp .ne 7, 3) := dk_160 0 7 (dk_at dksX10_isLike_4 11 rfl rfl)
theorem dX10_isLike_102 : decode cX10_isLike 102 = .ok (.iconst 1, 1) := dk_4 (dk_at dksX10_isLike_4 14 rfl rfl)
theorem dX10_isLike_103 : decode cX10_isLike 103 = .ok (.goto 4, 3) := dk_167 0 4 (dk_at dksX10_isLike_4 15 rfl rfl)
theorem dX10_isLike_106 : decode cX10_isLike 106 = .ok (.iconst 0, 1) := dk_3 (dk_at dksX10_isLike_4 18 rfl rfl)
theorem dX10_isLike_107 : decode cX10_isLike 107 = .ok (.ireturn, 1) := dk_172 (dk_at dksX10_isLike_4 19 rfl rfl)
abbrev cX10_hasChoice : ByteArray := prog_13_method_7_code
def yX10_hasChoice : MethodName := ⟨RX10, "hasChoice", "()Z"⟩
theorem dX10_hasChoice_0 : decode cX10_hasChoice 0 = .ok (.iconst 0, 1) := by decide +kernel
theorem dX10_hasChoice_1 : decode cX10_hasChoice 1 = .ok (.ireturn, 1) := by decide +kernel
abbrev cX10_plain : ByteArray := prog_13_method_9_code
def yX10_plain : MethodName := ⟨RX10, "plain", "(LLoanNames$Plain;)LLoanNames$All;"⟩
theorem dX10_plain_0 : decode cX10_plain 0 = .ok (.aload_n 0, 1) := by decide +kernel
theorem dX10_plain_1 : decode cX10_plain 1 = .ok (.invokevirtual 46, 3) := by decide +kernel
theorem dX10_plain_4 : decode cX10_plain 4 = .ok (.areturn, 1) := by decide +kernel
abbrev cX10_passes : ByteArray := prog_13_method_5_code
def yX10_passes : MethodName := ⟨RX10, "passes", "(LLoanNames$Sink;IJI)V"⟩
def dkwX10_passes_1 : List UInt8 := [33, 105, 182, 0, 25, 177]
abbrev dktX10_passes_1 : List UInt8 := dkwX10_passes_1 ++ []
def dkwX10_passes_0 : List UInt8 := [43, 42, 180, 0, 22, 28, 96, 42, 180, 0, 7, 42, 180, 0, 13, 42, 180, 0, 16, 42, 180, 0, 19, 133]
abbrev dktX10_passes_0 : List UInt8 := dkwX10_passes_0 ++ dktX10_passes_1
theorem dksX10_passes_0 : cX10_passes.data.toList.drop 0 = dktX10_passes_0 := by decide +kernel
theorem dksX10_passes_1 : cX10_passes.data.toList.drop 24 = dktX10_passes_1 := dk_seg dksX10_passes_0 24 rfl rfl
theorem dX10_passes_0 : decode cX10_passes 0 = .ok (.aload_n 1, 1) := dk_43 (dk_at dksX10_passes_0 0 rfl rfl)
theorem dX10_passes_1 : decode cX10_passes 1 = .ok (.aload_n 0, 1) := dk_42 (dk_at dksX10_passes_0 1 rfl rfl)
theorem dX10_passes_2 : decode cX10_passes 2 = .ok (.getfield 22, 3) := dk_180 0 22 (dk_at dksX10_passes_0 2 rfl rfl)
theorem dX10_passes_5 : decode cX10_passes 5 = .ok (.iload_n 2, 1) := dk_28 (dk_at dksX10_passes_0 5 rfl rfl)
theorem dX10_passes_6 : decode cX10_passes 6 = .ok (.iadd, 1) := dk_96 (dk_at dksX10_passes_0 6 rfl rfl)
theorem dX10_passes_7 : decode cX10_passes 7 = .ok (.aload_n 0, 1) := dk_42 (dk_at dksX10_passes_0 7 rfl rfl)
theorem dX10_passes_8 : decode cX10_passes 8 = .ok (.getfield 7, 3) := dk_180 0 7 (dk_at dksX10_passes_0 8 rfl rfl)
theorem dX10_passes_11 : decode cX10_passes 11 = .ok (.aload_n 0, 1) := dk_42 (dk_at dksX10_passes_0 11 rfl rfl)
theorem dX10_passes_12 : decode cX10_passes 12 = .ok (.getfield 13, 3) := dk_180 0 13 (dk_at dksX10_passes_0 12 rfl rfl)
theorem dX10_passes_15 : decode cX10_passes 15 = .ok (.aload_n 0, 1) := dk_42 (dk_at dksX10_passes_0 15 rfl rfl)
theorem dX10_passes_16 : decode cX10_passes 16 = .ok (.getfield 16, 3) := dk_180 0 16 (dk_at dksX10_passes_0 16 rfl rfl)
theorem dX10_passes_19 : decode cX10_passes 19 = .ok (.aload_n 0, 1) := dk_42 (dk_at dksX10_passes_0 19 rfl rfl)
theorem dX10_passes_20 : decode cX10_passes 20 = .ok (.getfield 19, 3) := dk_180 0 19 (dk_at dksX10_passes_0 20 rfl rfl)
theorem dX10_passes_23 : decode cX10_passes 23 = .ok (.i2l, 1) := dk_133 (dk_at dksX10_passes_0 23 rfl rfl)
theorem dX10_passes_24 : decode cX10_passes 24 = .ok (.lload_n 3, 1) := dk_33 (dk_at dksX10_passes_1 0 rfl rfl)
theorem dX10_passes_25 : decode cX10_passes 25 = .ok (.lmul, 1) := dk_105 (dk_at dksX10_passes_1 1 rfl rfl)
theorem dX10_passes_26 : decode cX10_passes 26 = .ok (.invokevirtual 25, 3) := dk_182 0 25 (dk_at dksX10_passes_1 2 rfl rfl)
theorem dX10_passes_29 : decode cX10_passes 29 = .ok (.return_, 1) := dk_177 (dk_at dksX10_passes_1 5 rfl rfl)
theorem q101 : (Jvm.Cond.initialized "LoanNames$Leaf") ∈ lw_all := lw_g (lw_at lw_m1 11 rfl) rfl
theorem q504 : (Jvm.Cond.instanceMethod ({ cls := "LoanNames$Leaf", name := "<init>", desc := "(IIIII)V" } : Jvm.MethodName)) ∈ lw_all := lw_g (lw_at lw_m2 174 rfl) rfl
theorem q505 : (Jvm.Cond.code ({ cls := "LoanNames$Leaf", name := "<init>", desc := "(IIIII)V" } : Jvm.MethodName) prog_13_method_1_code (6 : Nat) (Option.none : Option Jvm.ClassFile.FieldType)) ∈ lw_all := lw_g (lw_at lw_m2 175 rfl) rfl
theorem q506 : (Jvm.Cond.methodLinkNest "LoanNames$Leaf" (1 : Nat) ({ cls := "LoanNames$Part", name := "<init>", desc := "()V" } : Jvm.MethodName) "LoanNames") ∈ lw_tbl := lw_at lw_m2 176 rfl
theorem q516 : (Jvm.Cond.fieldLink "LoanNames$Leaf" (7 : Nat) "LoanNames$Leaf" "a" "I") ∈ lw_all := lw_g (lw_at lw_m2 186 rfl) rfl
theorem q523 : (Jvm.Cond.fieldLink "LoanNames$Leaf" (13 : Nat) "LoanNames$Leaf" "b" "I") ∈ lw_all := lw_g (lw_at lw_m2 193 rfl) rfl
theorem q530 : (Jvm.Cond.fieldLink "LoanNames$Leaf" (16 : Nat) "LoanNames$Leaf" "thing" "I") ∈ lw_all := lw_g (lw_at lw_m2 200 rfl) rfl
theorem q536 : (Jvm.Cond.fieldLink "LoanNames$Leaf" (19 : Nat) "LoanNames$Leaf" "much" "I") ∈ lw_all := lw_g (lw_at lw_m2 206 rfl) rfl
theorem q540 : (Jvm.Cond.fieldLink "LoanNames$Leaf" (22 : Nat) "LoanNames$Leaf" "at" "I") ∈ lw_all := lw_g (lw_at lw_m2 210 rfl) rfl
theorem q549 : (Jvm.Cond.soleField "LoanNames$Leaf" "a") ∈ lw_all := lw_g (lw_at lw_m2 219 rfl) rfl
theorem q551 : (Jvm.Cond.soleField "LoanNames$Leaf" "b") ∈ lw_all := lw_g (lw_at lw_m2 221 rfl) rfl
theorem q553 : (Jvm.Cond.soleField "LoanNames$Leaf" "thing") ∈ lw_all := lw_g (lw_at lw_m2 223 rfl) rfl
theorem q555 : (Jvm.Cond.soleField "LoanNames$Leaf" "much") ∈ lw_all := lw_g (lw_at lw_m2 225 rfl) rfl
theorem q557 : (Jvm.Cond.soleField "LoanNames$Leaf" "at") ∈ lw_all := lw_g (lw_at lw_m2 227 rfl) rfl
theorem q716 : (Jvm.Cond.instanceMethod ({ cls := "LoanNames$Leaf", name := "leaves", desc := "(LLoanNames$LeafRow;I)V" } : Jvm.MethodName)) ∈ lw_all := lw_g (lw_at lw_m3 146 rfl) rfl
theorem q717 : (Jvm.Cond.code ({ cls := "LoanNames$Leaf", name := "leaves", desc := "(LLoanNames$LeafRow;I)V" } : Jvm.MethodName) prog_13_method_6_code (3 : Nat) (Option.none : Option Jvm.ClassFile.FieldType)) ∈ lw_all := lw_g (lw_at lw_m3 147 rfl) rfl
theorem q718 : (Jvm.Cond.methodLink "LoanNames$Leaf" (31 : Nat) ({ cls := "LoanNames$LeafRow", name := "add", desc := "(LLoanNames$Leaf;I)V" } : Jvm.MethodName)) ∈ lw_all := lw_g (lw_at lw_m3 148 rfl) rfl
theorem q893 : (Jvm.Cond.declares ({ cls := "LoanNames$Leaf", name := "form", desc := "()I" } : Jvm.MethodName)) ∈ lw_tbl := lw_at lw_m4 83 rfl
theorem q894 : (Jvm.Cond.sameMethod "LoanNames$Leaf" "LoanNames$Leaf" "form" "()I") ∈ lw_all := lw_g (lw_at lw_m4 84 rfl) rfl
theorem q905 : (Jvm.Cond.instanceMethod ({ cls := "LoanNames$Leaf", name := "forCoin", desc := "()I" } : Jvm.MethodName)) ∈ lw_all := lw_g (lw_at lw_m4 95 rfl) rfl
theorem q906 : (Jvm.Cond.sameMethod "LoanNames$Leaf" "LoanNames$Leaf" "forCoin" "()I") ∈ lw_all := lw_g (lw_at lw_m4 96 rfl) rfl
theorem q912 : (Jvm.Cond.code ({ cls := "LoanNames$Leaf", name := "forCoin", desc := "()I" } : Jvm.MethodName) prog_13_method_3_code (1 : Nat) (Option.some Jvm.ClassFile.FieldType.int)) ∈ lw_all := lw_g (lw_at lw_m4 102 rfl) rfl
theorem q918 : (Jvm.Cond.instanceMethod ({ cls := "LoanNames$Leaf", name := "until", desc := "()I" } : Jvm.MethodName)) ∈ lw_all := lw_g (lw_at lw_m4 108 rfl) rfl
theorem q919 : (Jvm.Cond.sameMethod "LoanNames$Leaf" "LoanNames$Leaf" "until" "()I") ∈ lw_all := lw_g (lw_at lw_m4 109 rfl) rfl
theorem q925 : (Jvm.Cond.code ({ cls := "LoanNames$Leaf", name := "until", desc := "()I" } : Jvm.MethodName) prog_13_method_4_code (1 : Nat) (Option.some Jvm.ClassFile.FieldType.int)) ∈ lw_all := lw_g (lw_at lw_m4 115 rfl) rfl
theorem q998 : (Jvm.Cond.instanceMethod ({ cls := "LoanNames$Leaf", name := "isLike", desc := "(LLoanNames$Part;)Z" } : Jvm.MethodName)) ∈ lw_all := lw_g (lw_at lw_m4 188 rfl) rfl
theorem q999 : (Jvm.Cond.code ({ cls := "LoanNames$Leaf", name := "isLike", desc := "(LLoanNames$Part;)Z" } : Jvm.MethodName) prog_13_method_8_code (3 : Nat) (Option.some Jvm.ClassFile.FieldType.boolean)) ∈ lw_all := lw_g (lw_at lw_m4 189 rfl) rfl
theorem q1000 : (Jvm.Cond.classLink "LoanNames$Leaf" (8 : Nat) "LoanNames$Leaf") ∈ lw_all := lw_g (lw_at lw_m4 190 rfl) rfl
theorem q1001 : (Jvm.Cond.methodLink "LoanNames$Leaf" (36 : Nat) ({ cls := "LoanNames$Leaf", name := "form", desc := "()I" } : Jvm.MethodName)) ∈ lw_all := lw_g (lw_at lw_m4 191 rfl) rfl
theorem q1002 : (Jvm.Cond.methodLink "LoanNames$Leaf" (40 : Nat) ({ cls := "LoanNames$Leaf", name := "forCoin", desc := "()I" } : Jvm.MethodName)) ∈ lw_all := lw_g (lw_at lw_m4 192 rfl) rfl
theorem q1003 : (Jvm.Cond.methodLink "LoanNames$Leaf" (43 : Nat) ({ cls := "LoanNames$Leaf", name := "until", desc := "()I" } : Jvm.MethodName)) ∈ lw_all := lw_g (lw_at lw_m4 193 rfl) rfl
theorem q1027 : (Jvm.Cond.instanceMethod ({ cls := "LoanNames$Leaf", name := "hasChoice", desc := "()Z" } : Jvm.MethodName)) ∈ lw_all := lw_g (lw_at lw_m4 217 rfl) rfl
theorem q1028 : (Jvm.Cond.code ({ cls := "LoanNames$Leaf", name := "hasChoice", desc := "()Z" } : Jvm.MethodName) prog_13_method_7_code (1 : Nat) (Option.some Jvm.ClassFile.FieldType.boolean)) ∈ lw_all := lw_g (lw_at lw_m4 218 rfl) rfl
theorem q1054 : (Jvm.Cond.instanceMethod ({ cls := "LoanNames$Leaf", name := "plain", desc := "(LLoanNames$Plain;)LLoanNames$All;" } : Jvm.MethodName)) ∈ lw_all := lw_g (lw_at lw_m5 4 rfl) rfl
theorem q1055 : (Jvm.Cond.code ({ cls := "LoanNames$Leaf", name := "plain", desc := "(LLoanNames$Plain;)LLoanNames$All;" } : Jvm.MethodName) prog_13_method_9_code (2 : Nat) (Option.some (Jvm.ClassFile.FieldType.object "LoanNames$All"))) ∈ lw_all := lw_g (lw_at lw_m5 5 rfl) rfl
theorem q1056 : (Jvm.Cond.methodLink "LoanNames$Leaf" (46 : Nat) ({ cls := "LoanNames$Leaf", name := "alone", desc := "()LLoanNames$All;" } : Jvm.MethodName)) ∈ lw_all := lw_g (lw_at lw_m5 6 rfl) rfl
theorem q1057 : (Jvm.Cond.sameMethod "LoanNames$Leaf" "LoanNames$Part" "alone" "()LLoanNames$All;") ∈ lw_all := lw_g (lw_at lw_m5 7 rfl) rfl
theorem q1128 : (Jvm.Cond.instanceMethod ({ cls := "LoanNames$Leaf", name := "passes", desc := "(LLoanNames$Sink;IJI)V" } : Jvm.MethodName)) ∈ lw_all := lw_g (lw_at lw_m5 78 rfl) rfl
theorem q1129 : (Jvm.Cond.code ({ cls := "LoanNames$Leaf", name := "passes", desc := "(LLoanNames$Sink;IJI)V" } : Jvm.MethodName) prog_13_method_5_code (6 : Nat) (Option.none : Option Jvm.ClassFile.FieldType)) ∈ lw_all := lw_g (lw_at lw_m5 79 rfl) rfl
theorem q1130 : (Jvm.Cond.methodLink "LoanNames$Leaf" (25 : Nat) ({ cls := "LoanNames$Sink", name := "add", desc := "(IIIIJ)V" } : Jvm.MethodName)) ∈ lw_all := lw_g (lw_at lw_m5 80 rfl) rfl
theorem q2148 : (Jvm.Cond.sameMethod "LoanNames$Leaf" "LoanNames$Leaf" "passes" "(LLoanNames$Sink;IJI)V") ∈ lw_all := lw_g (lw_at lw_m9 138 rfl) rfl
theorem q2161 : (Jvm.Cond.castable "LoanNames$Leaf" "LoanNames$Part") ∈ lw_tbl := lw_at lw_m9 151 rfl
/-! LoanNames$Sale -/
set_option maxRecDepth 100000
def RX11 : String := "LoanNames$Sale"
def TX11 : u_T := fun k => match k with
  | 0 => ("LoanNames$Leaf", "a", "I", true)
  | 1 => ("LoanNames$Leaf", "b", "I", true)
  | 2 => ("LoanNames$Leaf", "thing", "I", true)
  | 3 => ("LoanNames$Leaf", "much", "I", true)
  | 4 => ("LoanNames$Leaf", "at", "I", true)
  | 5 => ("LoanNames$Sale", "coin", "I", true)
  | _ => ("LoanNames$Sale", "until", "I", true)
def tyX11 : Nat → FieldType := fun k => match k with
  | 0 => .int
  | 1 => .int
  | 2 => .int
  | 3 => .int
  | 4 => .int
  | 5 => .int
  | _ => .int
abbrev wsX110 : List Cond := u_ws RX11 TX11 7
theorem nmX11 : ∀ a, a < 7 → ∀ b, b < 7 → a ≠ b → (TX11 a).2.1 ≠ (TX11 b).2.1 := by decide +kernel
theorem tyX11_ok : ∀ k, k < 7 → parseFieldDescriptor (TX11 k).2.2.1 = some (tyX11 k) := by decide +kernel
abbrev cX11_init : ByteArray := prog_20_method_1_code
def yX11_init : MethodName := ⟨RX11, "<init>", "(IIIIIII)V"⟩
def dkwX11_init_0 : List UInt8 := [42, 27, 28, 29, 21, 4, 21, 6, 183, 0, 3, 42, 21, 5, 181, 0, 9, 42, 21, 7, 181, 0, 15, 177]
abbrev dktX11_init_0 : List UInt8 := dkwX11_init_0 ++ []
theorem dksX11_init_0 : cX11_init.data.toList.drop 0 = dktX11_init_0 := by decide +kernel
theorem dX11_init_0 : decode cX11_init 0 = .ok (.aload_n 0, 1) := dk_42 (dk_at dksX11_init_0 0 rfl rfl)
theorem dX11_init_1 : decode cX11_init 1 = .ok (.iload_n 1, 1) := dk_27 (dk_at dksX11_init_0 1 rfl rfl)
theorem dX11_init_2 : decode cX11_init 2 = .ok (.iload_n 2, 1) := dk_28 (dk_at dksX11_init_0 2 rfl rfl)
theorem dX11_init_3 : decode cX11_init 3 = .ok (.iload_n 3, 1) := dk_29 (dk_at dksX11_init_0 3 rfl rfl)
theorem dX11_init_4 : decode cX11_init 4 = .ok (.iload 4, 2) := dk_21 4 (dk_at dksX11_init_0 4 rfl rfl)
theorem dX11_init_6 : decode cX11_init 6 = .ok (.iload 6, 2) := dk_21 6 (dk_at dksX11_init_0 6 rfl rfl)
theorem dX11_init_8 : decode cX11_init 8 = .ok (.invokespecial 3, 3) := dk_183 0 3 (dk_at dksX11_init_0 8 rfl rfl)
theorem dX11_init_11 : decode cX11_init 11 = .ok (.aload_n 0, 1) := dk_42 (dk_at dksX11_init_0 11 rfl rfl)
theorem dX11_init_12 : decode cX11_init 12 = .ok (.iload 5, 2) := dk_21 5 (dk_at dksX11_init_0 12 rfl rfl)
theorem dX11_init_14 : decode cX11_init 14 = .ok (.putfield 9, 3) := dk_181 0 9 (dk_at dksX11_init_0 14 rfl rfl)
theorem dX11_init_17 : decode cX11_init 17 = .ok (.aload_n 0, 1) := dk_42 (dk_at dksX11_init_0 17 rfl rfl)
theorem dX11_init_18 : decode cX11_init 18 = .ok (.iload 7, 2) := dk_21 7 (dk_at dksX11_init_0 18 rfl rfl)
theorem dX11_init_20 : decode cX11_init 20 = .ok (.putfield 15, 3) := dk_181 0 15 (dk_at dksX11_init_0 20 rfl rfl)
theorem dX11_init_23 : decode cX11_init 23 = .ok (.return_, 1) := dk_177 (dk_at dksX11_init_0 23 rfl rfl)
abbrev cX11_form : ByteArray := prog_20_method_2_code
def yX11_form : MethodName := ⟨RX11, "form", "()I"⟩
theorem dX11_form_0 : decode cX11_form 0 = .ok (.iconst 2, 1) := by decide +kernel
theorem dX11_form_1 : decode cX11_form 1 = .ok (.ireturn, 1) := by decide +kernel
abbrev cX11_forCoin : ByteArray := prog_20_method_3_code
def yX11_forCoin : MethodName := ⟨RX11, "forCoin", "()I"⟩
theorem dX11_forCoin_0 : decode cX11_forCoin 0 = .ok (.aload_n 0, 1) := by decide +kernel
theorem dX11_forCoin_1 : decode cX11_forCoin 1 = .ok (.getfield 9, 3) := by decide +kernel
theorem dX11_forCoin_4 : decode cX11_forCoin 4 = .ok (.ireturn, 1) := by decide +kernel
abbrev cX11_until : ByteArray := prog_20_method_4_code
def yX11_until : MethodName := ⟨RX11, "until", "()I"⟩
theorem dX11_until_0 : decode cX11_until 0 = .ok (.aload_n 0, 1) := by decide +kernel
theorem dX11_until_1 : decode cX11_until 1 = .ok (.getfield 15, 3) := by decide +kernel
theorem dX11_until_4 : decode cX11_until 4 = .ok (.ireturn, 1) := by decide +kernel
abbrev cX11_passes : ByteArray := prog_20_method_5_code
def yX11_passes : MethodName := ⟨RX11, "passes", "(LLoanNames$Sink;IJI)V"⟩
def dkwX11_passes_1 : List UInt8 := [3, 42, 180, 0, 9, 133, 33, 105, 182, 0, 28, 177]
abbrev dktX11_passes_1 : List UInt8 := dkwX11_passes_1 ++ []
def dkwX11_passes_0 : List UInt8 := [42, 43, 28, 33, 21, 5, 183, 0, 18, 43, 42, 180, 0, 15, 28, 96, 42, 180, 0, 22, 42, 180, 0, 25]
abbrev dktX11_passes_0 : List UInt8 := dkwX11_passes_0 ++ dktX11_passes_1
theorem dksX11_passes_0 : cX11_passes.data.toList.drop 0 = dktX11_passes_0 := by decide +kernel
theorem dksX11_passes_1 : cX11_passes.data.toList.drop 24 = dktX11_passes_1 := dk_seg dksX11_passes_0 24 rfl rfl
theorem dX11_passes_0 : decode cX11_passes 0 = .ok (.aload_n 0, 1) := dk_42 (dk_at dksX11_passes_0 0 rfl rfl)
theorem dX11_passes_1 : decode cX11_passes 1 = .ok (.aload_n 1, 1) := dk_43 (dk_at dksX11_passes_0 1 rfl rfl)
theorem dX11_passes_2 : decode cX11_passes 2 = .ok (.iload_n 2, 1) := dk_28 (dk_at dksX11_passes_0 2 rfl rfl)
theorem dX11_passes_3 : decode cX11_passes 3 = .ok (.lload_n 3, 1) := dk_33 (dk_at dksX11_passes_0 3 rfl rfl)
theorem dX11_passes_4 : decode cX11_passes 4 = .ok (.iload 5, 2) := dk_21 5 (dk_at dksX11_passes_0 4 rfl rfl)
theorem dX11_passes_6 : decode cX11_passes 6 = .ok (.invokespecial 18, 3) := dk_183 0 18 (dk_at dksX11_passes_0 6 rfl rfl)
theorem dX11_passes_9 : decode cX11_passes 9 = .ok (.aload_n 1, 1) := dk_43 (dk_at dksX11_passes_0 9 rfl rfl)
theorem dX11_passes_10 : decode cX11_passes 10 = .ok (.aload_n 0, 1) := dk_42 (dk_at dksX11_passes_0 10 rfl rfl)
theorem dX11_passes_11 : decode cX11_passes 11 = .ok (.getfield 15, 3) := dk_180 0 15 (dk_at dksX11_passes_0 11 rfl rfl)
theorem dX11_passes_14 : decode cX11_passes 14 = .ok (.iload_n 2, 1) := dk_28 (dk_at dksX11_passes_0 14 rfl rfl)
theorem dX11_passes_15 : decode cX11_passes 15 = .ok (.iadd, 1) := dk_96 (dk_at dksX11_passes_0 15 rfl rfl)
theorem dX11_passes_16 : decode cX11_passes 16 = .ok (.aload_n 0, 1) := dk_42 (dk_at dksX11_passes_0 16 rfl rfl)
theorem dX11_passes_17 : decode cX11_passes 17 = .ok (.getfield 22, 3) := dk_180 0 22 (dk_at dksX11_passes_0 17 rfl rfl)
theorem dX11_passes_20 : decode cX11_passes 20 = .ok (.aload_n 0, 1) := dk_42 (dk_at dksX11_passes_0 20 rfl rfl)
theorem dX11_passes_21 : decode cX11_passes 21 = .ok (.getfield 25, 3) := dk_180 0 25 (dk_at dksX11_passes_0 21 rfl rfl)
theorem dX11_passes_24 : decode cX11_passes 24 = .ok (.iconst 0, 1) := dk_3 (dk_at dksX11_passes_1 0 rfl rfl)
theorem dX11_passes_25 : decode cX11_passes 25 = .ok (.aload_n 0, 1) := dk_42 (dk_at dksX11_passes_1 1 rfl rfl)
theorem dX11_passes_26 : decode cX11_passes 26 = .ok (.getfield 9, 3) := dk_180 0 9 (dk_at dksX11_passes_1 2 rfl rfl)
theorem dX11_passes_29 : decode cX11_passes 29 = .ok (.i2l, 1) := dk_133 (dk_at dksX11_passes_1 5 rfl rfl)
theorem dX11_passes_30 : decode cX11_passes 30 = .ok (.lload_n 3, 1) := dk_33 (dk_at dksX11_passes_1 6 rfl rfl)
theorem dX11_passes_31 : decode cX11_passes 31 = .ok (.lmul, 1) := dk_105 (dk_at dksX11_passes_1 7 rfl rfl)
theorem dX11_passes_32 : decode cX11_passes 32 = .ok (.invokevirtual 28, 3) := dk_182 0 28 (dk_at dksX11_passes_1 8 rfl rfl)
theorem dX11_passes_35 : decode cX11_passes 35 = .ok (.return_, 1) := dk_177 (dk_at dksX11_passes_1 11 rfl rfl)
theorem q102 : (Jvm.Cond.initialized "LoanNames$Sale") ∈ lw_all := lw_g (lw_at lw_m1 12 rfl) rfl
theorem q501 : (Jvm.Cond.instanceMethod ({ cls := "LoanNames$Sale", name := "<init>", desc := "(IIIIIII)V" } : Jvm.MethodName)) ∈ lw_all := lw_g (lw_at lw_m2 171 rfl) rfl
theorem q502 : (Jvm.Cond.code ({ cls := "LoanNames$Sale", name := "<init>", desc := "(IIIIIII)V" } : Jvm.MethodName) prog_20_method_1_code (8 : Nat) (Option.none : Option Jvm.ClassFile.FieldType)) ∈ lw_all := lw_g (lw_at lw_m2 172 rfl) rfl
theorem q503 : (Jvm.Cond.methodLink "LoanNames$Sale" (3 : Nat) ({ cls := "LoanNames$Leaf", name := "<init>", desc := "(IIIII)V" } : Jvm.MethodName)) ∈ lw_all := lw_g (lw_at lw_m2 173 rfl) rfl
theorem q510 : (Jvm.Cond.fieldLink "LoanNames$Sale" (9 : Nat) "LoanNames$Sale" "coin" "I") ∈ lw_all := lw_g (lw_at lw_m2 180 rfl) rfl
theorem q513 : (Jvm.Cond.fieldLink "LoanNames$Sale" (15 : Nat) "LoanNames$Sale" "until" "I") ∈ lw_all := lw_g (lw_at lw_m2 183 rfl) rfl
theorem q520 : (Jvm.Cond.fieldLink "LoanNames$Sale" (25 : Nat) "LoanNames$Sale" "a" "I") ∈ lw_all := lw_g (lw_at lw_m2 190 rfl) rfl
theorem q521 : (Jvm.Cond.sameField "LoanNames$Sale" "LoanNames$Leaf" "a" "I") ∈ lw_all := lw_g (lw_at lw_m2 191 rfl) rfl
theorem q527 : (Jvm.Cond.fieldLink "LoanNames$Sale" (22 : Nat) "LoanNames$Sale" "b" "I") ∈ lw_all := lw_g (lw_at lw_m2 197 rfl) rfl
theorem q528 : (Jvm.Cond.sameField "LoanNames$Sale" "LoanNames$Leaf" "b" "I") ∈ lw_all := lw_g (lw_at lw_m2 198 rfl) rfl
theorem q545 : (Jvm.Cond.soleField "LoanNames$Sale" "coin") ∈ lw_all := lw_g (lw_at lw_m2 215 rfl) rfl
theorem q547 : (Jvm.Cond.soleField "LoanNames$Sale" "until") ∈ lw_all := lw_g (lw_at lw_m2 217 rfl) rfl
theorem q575 : (Jvm.Cond.instantiable "LoanNames$Sale" (7 : Nat)) ∈ lw_all := lw_g (lw_at lw_m3 5 rfl) rfl
theorem q583 : (Jvm.Cond.laysFinal "LoanNames$Sale" "LoanNames$Sale" "coin" "I") ∈ lw_all := lw_g (lw_at lw_m3 13 rfl) rfl
theorem q584 : (Jvm.Cond.laysFinal "LoanNames$Sale" "LoanNames$Sale" "until" "I") ∈ lw_all := lw_g (lw_at lw_m3 14 rfl) rfl
theorem q585 : (Jvm.Cond.laysFinal "LoanNames$Sale" "LoanNames$Leaf" "a" "I") ∈ lw_all := lw_g (lw_at lw_m3 15 rfl) rfl
theorem q586 : (Jvm.Cond.laysFinal "LoanNames$Sale" "LoanNames$Leaf" "b" "I") ∈ lw_all := lw_g (lw_at lw_m3 16 rfl) rfl
theorem q587 : (Jvm.Cond.laysFinal "LoanNames$Sale" "LoanNames$Leaf" "thing" "I") ∈ lw_all := lw_g (lw_at lw_m3 17 rfl) rfl
theorem q588 : (Jvm.Cond.laysFinal "LoanNames$Sale" "LoanNames$Leaf" "much" "I") ∈ lw_all := lw_g (lw_at lw_m3 18 rfl) rfl
theorem q589 : (Jvm.Cond.laysFinal "LoanNames$Sale" "LoanNames$Leaf" "at" "I") ∈ lw_all := lw_g (lw_at lw_m3 19 rfl) rfl
theorem q590 : (Jvm.Cond.superclass "LoanNames$Sale" "LoanNames$Leaf") ∈ lw_all := lw_g (lw_at lw_m3 20 rfl) rfl
theorem q724 : (Jvm.Cond.selects "LoanNames$Sale" ({ cls := "LoanNames$Part", name := "leaves", desc := "(LLoanNames$LeafRow;I)V" } : Jvm.MethodName) ({ cls := "LoanNames$Leaf", name := "leaves", desc := "(LLoanNames$LeafRow;I)V" } : Jvm.MethodName)) ∈ lw_all := lw_g (lw_at lw_m3 154 rfl) rfl
theorem q901 : (Jvm.Cond.selects "LoanNames$Sale" ({ cls := "LoanNames$Leaf", name := "form", desc := "()I" } : Jvm.MethodName) ({ cls := "LoanNames$Sale", name := "form", desc := "()I" } : Jvm.MethodName)) ∈ lw_all := lw_g (lw_at lw_m4 91 rfl) rfl
theorem q902 : (Jvm.Cond.instanceMethod ({ cls := "LoanNames$Sale", name := "form", desc := "()I" } : Jvm.MethodName)) ∈ lw_all := lw_g (lw_at lw_m4 92 rfl) rfl
theorem q903 : (Jvm.Cond.code ({ cls := "LoanNames$Sale", name := "form", desc := "()I" } : Jvm.MethodName) prog_20_method_2_code (1 : Nat) (Option.some Jvm.ClassFile.FieldType.int)) ∈ lw_all := lw_g (lw_at lw_m4 93 rfl) rfl
theorem q908 : (Jvm.Cond.instanceMethod ({ cls := "LoanNames$Sale", name := "forCoin", desc := "()I" } : Jvm.MethodName)) ∈ lw_all := lw_g (lw_at lw_m4 98 rfl) rfl
theorem q909 : (Jvm.Cond.code ({ cls := "LoanNames$Sale", name := "forCoin", desc := "()I" } : Jvm.MethodName) prog_20_method_3_code (1 : Nat) (Option.some Jvm.ClassFile.FieldType.int)) ∈ lw_all := lw_g (lw_at lw_m4 99 rfl) rfl
theorem q911 : (Jvm.Cond.selects "LoanNames$Sale" ({ cls := "LoanNames$Leaf", name := "forCoin", desc := "()I" } : Jvm.MethodName) ({ cls := "LoanNames$Sale", name := "forCoin", desc := "()I" } : Jvm.MethodName)) ∈ lw_all := lw_g (lw_at lw_m4 101 rfl) rfl
theorem q921 : (Jvm.Cond.instanceMethod ({ cls := "LoanNames$Sale", name := "until", desc := "()I" } : Jvm.MethodName)) ∈ lw_all := lw_g (lw_at lw_m4 111 rfl) rfl
theorem q922 : (Jvm.Cond.code ({ cls := "LoanNames$Sale", name := "until", desc := "()I" } : Jvm.MethodName) prog_20_method_4_code (1 : Nat) (Option.some Jvm.ClassFile.FieldType.int)) ∈ lw_all := lw_g (lw_at lw_m4 112 rfl) rfl
theorem q924 : (Jvm.Cond.selects "LoanNames$Sale" ({ cls := "LoanNames$Leaf", name := "until", desc := "()I" } : Jvm.MethodName) ({ cls := "LoanNames$Sale", name := "until", desc := "()I" } : Jvm.MethodName)) ∈ lw_all := lw_g (lw_at lw_m4 114 rfl) rfl
theorem q1006 : (Jvm.Cond.selects "LoanNames$Sale" ({ cls := "LoanNames$Part", name := "isLike", desc := "(LLoanNames$Part;)Z" } : Jvm.MethodName) ({ cls := "LoanNames$Leaf", name := "isLike", desc := "(LLoanNames$Part;)Z" } : Jvm.MethodName)) ∈ lw_all := lw_g (lw_at lw_m4 196 rfl) rfl
theorem q1033 : (Jvm.Cond.selects "LoanNames$Sale" ({ cls := "LoanNames$Part", name := "hasChoice", desc := "()Z" } : Jvm.MethodName) ({ cls := "LoanNames$Leaf", name := "hasChoice", desc := "()Z" } : Jvm.MethodName)) ∈ lw_all := lw_g (lw_at lw_m4 223 rfl) rfl
theorem q1060 : (Jvm.Cond.selects "LoanNames$Sale" ({ cls := "LoanNames$Leaf", name := "alone", desc := "()LLoanNames$All;" } : Jvm.MethodName) ({ cls := "LoanNames$Part", name := "alone", desc := "()LLoanNames$All;" } : Jvm.MethodName)) ∈ lw_all := lw_g (lw_at lw_m5 10 rfl) rfl
theorem q1063 : (Jvm.Cond.selects "LoanNames$Sale" ({ cls := "LoanNames$Part", name := "plain", desc := "(LLoanNames$Plain;)LLoanNames$All;" } : Jvm.MethodName) ({ cls := "LoanNames$Leaf", name := "plain", desc := "(LLoanNames$Plain;)LLoanNames$All;" } : Jvm.MethodName)) ∈ lw_all := lw_g (lw_at lw_m5 13 rfl) rfl
theorem q1131 : (Jvm.Cond.selects "LoanNames$Sale" ({ cls := "LoanNames$Part", name := "passes", desc := "(LLoanNames$Sink;IJI)V" } : Jvm.MethodName) ({ cls := "LoanNames$Sale", name := "passes", desc := "(LLoanNames$Sink;IJI)V" } : Jvm.MethodName)) ∈ lw_all := lw_g (lw_at lw_m5 81 rfl) rfl
theorem q1132 : (Jvm.Cond.instanceMethod ({ cls := "LoanNames$Sale", name := "passes", desc := "(LLoanNames$Sink;IJI)V" } : Jvm.MethodName)) ∈ lw_all := lw_g (lw_at lw_m5 82 rfl) rfl
theorem q1133 : (Jvm.Cond.code ({ cls := "LoanNames$Sale", name := "passes", desc := "(LLoanNames$Sink;IJI)V" } : Jvm.MethodName) prog_20_method_5_code (6 : Nat) (Option.none : Option Jvm.ClassFile.FieldType)) ∈ lw_all := lw_g (lw_at lw_m5 83 rfl) rfl
theorem q1134 : (Jvm.Cond.methodLink "LoanNames$Sale" (18 : Nat) ({ cls := "LoanNames$Leaf", name := "passes", desc := "(LLoanNames$Sink;IJI)V" } : Jvm.MethodName)) ∈ lw_all := lw_g (lw_at lw_m5 84 rfl) rfl
theorem q1135 : (Jvm.Cond.methodLink "LoanNames$Sale" (28 : Nat) ({ cls := "LoanNames$Sink", name := "add", desc := "(IIIIJ)V" } : Jvm.MethodName)) ∈ lw_all := lw_g (lw_at lw_m5 85 rfl) rfl
theorem q2153 : (Jvm.Cond.castable "LoanNames$Sale" "LoanNames$Leaf") ∈ lw_tbl := lw_at lw_m9 143 rfl
theorem q2156 : (Jvm.Cond.castable "LoanNames$Sale" "LoanNames$Part") ∈ lw_tbl := lw_at lw_m9 146 rfl
theorem in_X11 : ∀ w ∈ wsX110, w ∈ lw_all := lw_in wsX110 [585, 586, 587, 588, 589, 583, 584] (by decide +kernel) (by decide +kernel)
/-! LoanNames$Hire -/
set_option maxRecDepth 100000
def RX12 : String := "LoanNames$Hire"
def TX12 : u_T := fun k => match k with
  | 0 => ("LoanNames$Leaf", "a", "I", true)
  | 1 => ("LoanNames$Leaf", "b", "I", true)
  | 2 => ("LoanNames$Leaf", "thing", "I", true)
  | 3 => ("LoanNames$Leaf", "much", "I", true)
  | 4 => ("LoanNames$Leaf", "at", "I", true)
  | 5 => ("LoanNames$Sale", "coin", "I", true)
  | _ => ("LoanNames$Sale", "until", "I", true)
def tyX12 : Nat → FieldType := fun k => match k with
  | 0 => .int
  | 1 => .int
  | 2 => .int
  | 3 => .int
  | 4 => .int
  | 5 => .int
  | _ => .int
abbrev wsX120 : List Cond := u_ws RX12 TX12 7
theorem nmX12 : ∀ a, a < 7 → ∀ b, b < 7 → a ≠ b → (TX12 a).2.1 ≠ (TX12 b).2.1 := by decide +kernel
theorem tyX12_ok : ∀ k, k < 7 → parseFieldDescriptor (TX12 k).2.2.1 = some (tyX12 k) := by decide +kernel
abbrev cX12_init : ByteArray := prog_9_method_1_code
def yX12_init : MethodName := ⟨RX12, "<init>", "(IIIIIII)V"⟩
def dkwX12_init_0 : List UInt8 := [42, 27, 28, 29, 21, 4, 21, 5, 21, 6, 21, 7, 183, 0, 3, 177]
abbrev dktX12_init_0 : List UInt8 := dkwX12_init_0 ++ []
theorem dksX12_init_0 : cX12_init.data.toList.drop 0 = dktX12_init_0 := by decide +kernel
theorem dX12_init_0 : decode cX12_init 0 = .ok (.aload_n 0, 1) := dk_42 (dk_at dksX12_init_0 0 rfl rfl)
theorem dX12_init_1 : decode cX12_init 1 = .ok (.iload_n 1, 1) := dk_27 (dk_at dksX12_init_0 1 rfl rfl)
theorem dX12_init_2 : decode cX12_init 2 = .ok (.iload_n 2, 1) := dk_28 (dk_at dksX12_init_0 2 rfl rfl)
theorem dX12_init_3 : decode cX12_init 3 = .ok (.iload_n 3, 1) := dk_29 (dk_at dksX12_init_0 3 rfl rfl)
theorem dX12_init_4 : decode cX12_init 4 = .ok (.iload 4, 2) := dk_21 4 (dk_at dksX12_init_0 4 rfl rfl)
theorem dX12_init_6 : decode cX12_init 6 = .ok (.iload 5, 2) := dk_21 5 (dk_at dksX12_init_0 6 rfl rfl)
theorem dX12_init_8 : decode cX12_init 8 = .ok (.iload 6, 2) := dk_21 6 (dk_at dksX12_init_0 8 rfl rfl)
theorem dX12_init_10 : decode cX12_init 10 = .ok (.iload 7, 2) := dk_21 7 (dk_at dksX12_init_0 10 rfl rfl)
theorem dX12_init_12 : decode cX12_init 12 = .ok (.invokespecial 3, 3) := dk_183 0 3 (dk_at dksX12_init_0 12 rfl rfl)
theorem dX12_init_15 : decode cX12_init 15 = .ok (.return_, 1) := dk_177 (dk_at dksX12_init_0 15 rfl rfl)
abbrev cX12_form : ByteArray := prog_9_method_2_code
def yX12_form : MethodName := ⟨RX12, "form", "()I"⟩
theorem dX12_form_0 : decode cX12_form 0 = .ok (.iconst 3, 1) := by decide +kernel
theorem dX12_form_1 : decode cX12_form 1 = .ok (.ireturn, 1) := by decide +kernel
abbrev cX12_passes : ByteArray := prog_9_method_3_code
def yX12_passes : MethodName := ⟨RX12, "passes", "(LLoanNames$Sink;IJI)V"⟩
def dkwX12_passes_3 : List UInt8 := [180, 0, 15, 3, 42, 180, 0, 36, 133, 33, 105, 182, 0, 27, 177]
abbrev dktX12_passes_3 : List UInt8 := dkwX12_passes_3 ++ []
def dkwX12_passes_2 : List UInt8 := [42, 180, 0, 24, 133, 33, 105, 182, 0, 27, 43, 42, 180, 0, 33, 28, 96, 42, 180, 0, 18, 42]
abbrev dktX12_passes_2 : List UInt8 := dkwX12_passes_2 ++ dktX12_passes_3
def dkwX12_passes_1 : List UInt8 := [33, 105, 182, 0, 27, 43, 42, 180, 0, 33, 28, 96, 42, 180, 0, 18, 42, 180, 0, 15, 42, 180, 0, 21]
abbrev dktX12_passes_1 : List UInt8 := dkwX12_passes_1 ++ dktX12_passes_2
def dkwX12_passes_0 : List UInt8 := [43, 42, 180, 0, 9, 28, 96, 42, 180, 0, 15, 42, 180, 0, 18, 42, 180, 0, 21, 42, 180, 0, 24, 133]
abbrev dktX12_passes_0 : List UInt8 := dkwX12_passes_0 ++ dktX12_passes_1
theorem dksX12_passes_0 : cX12_passes.data.toList.drop 0 = dktX12_passes_0 := by decide +kernel
theorem dksX12_passes_1 : cX12_passes.data.toList.drop 24 = dktX12_passes_1 := dk_seg dksX12_passes_0 24 rfl rfl
theorem dksX12_passes_2 : cX12_passes.data.toList.drop 48 = dktX12_passes_2 := dk_seg dksX12_passes_1 24 rfl rfl
theorem dksX12_passes_3 : cX12_passes.data.toList.drop 70 = dktX12_passes_3 := dk_seg dksX12_passes_2 22 rfl rfl
theorem dX12_passes_0 : decode cX12_passes 0 = .ok (.aload_n 1, 1) := dk_43 (dk_at dksX12_passes_0 0 rfl rfl)
theorem dX12_passes_1 : decode cX12_passes 1 = .ok (.aload_n 0, 1) := dk_42 (dk_at dksX12_passes_0 1 rfl rfl)
theorem dX12_passes_2 : decode cX12_passes 2 = .ok (.getfield 9, 3) := dk_180 0 9 (dk_at dksX12_passes_0 2 rfl rfl)
theorem dX12_passes_5 : decode cX12_passes 5 = .ok (.iload_n 2, 1) := dk_28 (dk_at dksX12_passes_0 5 rfl rfl)
theorem dX12_passes_6 : decode cX12_passes 6 = .ok (.iadd, 1) := dk_96 (dk_at dksX12_passes_0 6 rfl rfl)
theorem dX12_passes_7 : decode cX12_passes 7 = .ok (.aload_n 0, 1) := dk_42 (dk_at dksX12_passes_0 7 rfl rfl)
theorem dX12_passes_8 : decode cX12_passes 8 = .ok (.getfield 15, 3) := dk_180 0 15 (dk_at dksX12_passes_0 8 rfl rfl)
theorem dX12_passes_11 : decode cX12_passes 11 = .ok (.aload_n 0, 1) := dk_42 (dk_at dksX12_passes_0 11 rfl rfl)
theorem dX12_passes_12 : decode cX12_passes 12 = .ok (.getfield 18, 3) := dk_180 0 18 (dk_at dksX12_passes_0 12 rfl rfl)
theorem dX12_passes_15 : decode cX12_passes 15 = .ok (.aload_n 0, 1) := dk_42 (dk_at dksX12_passes_0 15 rfl rfl)
theorem dX12_passes_16 : decode cX12_passes 16 = .ok (.getfield 21, 3) := dk_180 0 21 (dk_at dksX12_passes_0 16 rfl rfl)
theorem dX12_passes_19 : decode cX12_passes 19 = .ok (.aload_n 0, 1) := dk_42 (dk_at dksX12_passes_0 19 rfl rfl)
theorem dX12_passes_20 : decode cX12_passes 20 = .ok (.getfield 24, 3) := dk_180 0 24 (dk_at dksX12_passes_0 20 rfl rfl)
theorem dX12_passes_23 : decode cX12_passes 23 = .ok (.i2l, 1) := dk_133 (dk_at dksX12_passes_0 23 rfl rfl)
theorem dX12_passes_24 : decode cX12_passes 24 = .ok (.lload_n 3, 1) := dk_33 (dk_at dksX12_passes_1 0 rfl rfl)
theorem dX12_passes_25 : decode cX12_passes 25 = .ok (.lmul, 1) := dk_105 (dk_at dksX12_passes_1 1 rfl rfl)
theorem dX12_passes_26 : decode cX12_passes 26 = .ok (.invokevirtual 27, 3) := dk_182 0 27 (dk_at dksX12_passes_1 2 rfl rfl)
theorem dX12_passes_29 : decode cX12_passes 29 = .ok (.aload_n 1, 1) := dk_43 (dk_at dksX12_passes_1 5 rfl rfl)
theorem dX12_passes_30 : decode cX12_passes 30 = .ok (.aload_n 0, 1) := dk_42 (dk_at dksX12_passes_1 6 rfl rfl)
theorem dX12_passes_31 : decode cX12_passes 31 = .ok (.getfield 33, 3) := dk_180 0 33 (dk_at dksX12_passes_1 7 rfl rfl)
theorem dX12_passes_34 : decode cX12_passes 34 = .ok (.iload_n 2, 1) := dk_28 (dk_at dksX12_passes_1 10 rfl rfl)
theorem dX12_passes_35 : decode cX12_passes 35 = .ok (.iadd, 1) := dk_96 (dk_at dksX12_passes_1 11 rfl rfl)
theorem dX12_passes_36 : decode cX12_passes 36 = .ok (.aload_n 0, 1) := dk_42 (dk_at dksX12_passes_1 12 rfl rfl)
theorem dX12_passes_37 : decode cX12_passes 37 = .ok (.getfield 18, 3) := dk_180 0 18 (dk_at dksX12_passes_1 13 rfl rfl)
theorem dX12_passes_40 : decode cX12_passes 40 = .ok (.aload_n 0, 1) := dk_42 (dk_at dksX12_passes_1 16 rfl rfl)
theorem dX12_passes_41 : decode cX12_passes 41 = .ok (.getfield 15, 3) := dk_180 0 15 (dk_at dksX12_passes_1 17 rfl rfl)
theorem dX12_passes_44 : decode cX12_passes 44 = .ok (.aload_n 0, 1) := dk_42 (dk_at dksX12_passes_1 20 rfl rfl)
theorem dX12_passes_45 : decode cX12_passes 45 = .ok (.getfield 21, 3) := dk_180 0 21 (dk_at dksX12_passes_1 21 rfl rfl)
theorem dX12_passes_48 : decode cX12_passes 48 = .ok (.aload_n 0, 1) := dk_42 (dk_at dksX12_passes_2 0 rfl rfl)
theorem dX12_passes_49 : decode cX12_passes 49 = .ok (.getfield 24, 3) := dk_180 0 24 (dk_at dksX12_passes_2 1 rfl rfl)
theorem dX12_passes_52 : decode cX12_passes 52 = .ok (.i2l, 1) := dk_133 (dk_at dksX12_passes_2 4 rfl rfl)
theorem dX12_passes_53 : decode cX12_passes 53 = .ok (.lload_n 3, 1) := dk_33 (dk_at dksX12_passes_2 5 rfl rfl)
theorem dX12_passes_54 : decode cX12_passes 54 = .ok (.lmul, 1) := dk_105 (dk_at dksX12_passes_2 6 rfl rfl)
theorem dX12_passes_55 : decode cX12_passes 55 = .ok (.invokevirtual 27, 3) := dk_182 0 27 (dk_at dksX12_passes_2 7 rfl rfl)
theorem dX12_passes_58 : decode cX12_passes 58 = .ok (.aload_n 1, 1) := dk_43 (dk_at dksX12_passes_2 10 rfl rfl)
theorem dX12_passes_59 : decode cX12_passes 59 = .ok (.aload_n 0, 1) := dk_42 (dk_at dksX12_passes_2 11 rfl rfl)
theorem dX12_passes_60 : decode cX12_passes 60 = .ok (.getfield 33, 3) := dk_180 0 33 (dk_at dksX12_passes_2 12 rfl rfl)
theorem dX12_passes_63 : decode cX12_passes 63 = .ok (.iload_n 2, 1) := dk_28 (dk_at dksX12_passes_2 15 rfl rfl)
theorem dX12_passes_64 : decode cX12_passes 64 = .ok (.iadd, 1) := dk_96 (dk_at dksX12_passes_2 16 rfl rfl)
theorem dX12_passes_65 : decode cX12_passes 65 = .ok (.aload_n 0, 1) := dk_42 (dk_at dksX12_passes_2 17 rfl rfl)
theorem dX12_passes_66 : decode cX12_passes 66 = .ok (.getfield 18, 3) := dk_180 0 18 (dk_at dksX12_passes_2 18 rfl rfl)
theorem dX12_passes_69 : decode cX12_passes 69 = .ok (.aload_n 0, 1) := dk_42 (dk_at dksX12_passes_2 21 rfl rfl)
theorem dX12_passes_70 : decode cX12_passes 70 = .ok (.getfield 15, 3) := dk_180 0 15 (dk_at dksX12_passes_3 0 rfl rfl)
theorem dX12_passes_73 : decode cX12_passes 73 = .ok (.iconst 0, 1) := dk_3 (dk_at dksX12_passes_3 3 rfl rfl)
theorem dX12_passes_74 : decode cX12_passes 74 = .ok (.aload_n 0, 1) := dk_42 (dk_at dksX12_passes_3 4 rfl rfl)
theorem dX12_passes_75 : decode cX12_passes 75 = .ok (.getfield 36, 3) := dk_180 0 36 (dk_at dksX12_passes_3 5 rfl rfl)
theorem dX12_passes_78 : decode cX12_passes 78 = .ok (.i2l, 1) := dk_133 (dk_at dksX12_passes_3 8 rfl rfl)
theorem dX12_passes_79 : decode cX12_passes 79 = .ok (.lload_n 3, 1) := dk_33 (dk_at dksX12_passes_3 9 rfl rfl)
theorem dX12_passes_80 : decode cX12_passes 80 = .ok (.lmul, 1) := dk_105 (dk_at dksX12_passes_3 10 rfl rfl)
theorem dX12_passes_81 : decode cX12_passes 81 = .ok (.invokevirtual 27, 3) := dk_182 0 27 (dk_at dksX12_passes_3 11 rfl rfl)
theorem dX12_passes_84 : decode cX12_passes 84 = .ok (.return_, 1) := dk_177 (dk_at dksX12_passes_3 14 rfl rfl)
theorem q103 : (Jvm.Cond.initialized "LoanNames$Hire") ∈ lw_all := lw_g (lw_at lw_m1 13 rfl) rfl
theorem q496 : (Jvm.Cond.instantiable "LoanNames$Hire" (7 : Nat)) ∈ lw_all := lw_g (lw_at lw_m2 166 rfl) rfl
theorem q498 : (Jvm.Cond.instanceMethod ({ cls := "LoanNames$Hire", name := "<init>", desc := "(IIIIIII)V" } : Jvm.MethodName)) ∈ lw_all := lw_g (lw_at lw_m2 168 rfl) rfl
theorem q499 : (Jvm.Cond.code ({ cls := "LoanNames$Hire", name := "<init>", desc := "(IIIIIII)V" } : Jvm.MethodName) prog_9_method_1_code (8 : Nat) (Option.none : Option Jvm.ClassFile.FieldType)) ∈ lw_all := lw_g (lw_at lw_m2 169 rfl) rfl
theorem q500 : (Jvm.Cond.methodLink "LoanNames$Hire" (3 : Nat) ({ cls := "LoanNames$Sale", name := "<init>", desc := "(IIIIIII)V" } : Jvm.MethodName)) ∈ lw_all := lw_g (lw_at lw_m2 170 rfl) rfl
theorem q511 : (Jvm.Cond.fieldLink "LoanNames$Hire" (36 : Nat) "LoanNames$Hire" "coin" "I") ∈ lw_all := lw_g (lw_at lw_m2 181 rfl) rfl
theorem q512 : (Jvm.Cond.sameField "LoanNames$Hire" "LoanNames$Sale" "coin" "I") ∈ lw_all := lw_g (lw_at lw_m2 182 rfl) rfl
theorem q514 : (Jvm.Cond.fieldLink "LoanNames$Hire" (33 : Nat) "LoanNames$Hire" "until" "I") ∈ lw_all := lw_g (lw_at lw_m2 184 rfl) rfl
theorem q515 : (Jvm.Cond.sameField "LoanNames$Hire" "LoanNames$Sale" "until" "I") ∈ lw_all := lw_g (lw_at lw_m2 185 rfl) rfl
theorem q517 : (Jvm.Cond.fieldLink "LoanNames$Hire" (15 : Nat) "LoanNames$Hire" "a" "I") ∈ lw_all := lw_g (lw_at lw_m2 187 rfl) rfl
theorem q518 : (Jvm.Cond.sameField "LoanNames$Hire" "LoanNames$Leaf" "a" "I") ∈ lw_all := lw_g (lw_at lw_m2 188 rfl) rfl
theorem q524 : (Jvm.Cond.fieldLink "LoanNames$Hire" (18 : Nat) "LoanNames$Hire" "b" "I") ∈ lw_all := lw_g (lw_at lw_m2 194 rfl) rfl
theorem q525 : (Jvm.Cond.sameField "LoanNames$Hire" "LoanNames$Leaf" "b" "I") ∈ lw_all := lw_g (lw_at lw_m2 195 rfl) rfl
theorem q533 : (Jvm.Cond.fieldLink "LoanNames$Hire" (21 : Nat) "LoanNames$Hire" "thing" "I") ∈ lw_all := lw_g (lw_at lw_m2 203 rfl) rfl
theorem q534 : (Jvm.Cond.sameField "LoanNames$Hire" "LoanNames$Leaf" "thing" "I") ∈ lw_all := lw_g (lw_at lw_m2 204 rfl) rfl
theorem q537 : (Jvm.Cond.fieldLink "LoanNames$Hire" (24 : Nat) "LoanNames$Hire" "much" "I") ∈ lw_all := lw_g (lw_at lw_m2 207 rfl) rfl
theorem q538 : (Jvm.Cond.sameField "LoanNames$Hire" "LoanNames$Leaf" "much" "I") ∈ lw_all := lw_g (lw_at lw_m2 208 rfl) rfl
theorem q541 : (Jvm.Cond.fieldLink "LoanNames$Hire" (9 : Nat) "LoanNames$Hire" "at" "I") ∈ lw_all := lw_g (lw_at lw_m2 211 rfl) rfl
theorem q542 : (Jvm.Cond.sameField "LoanNames$Hire" "LoanNames$Leaf" "at" "I") ∈ lw_all := lw_g (lw_at lw_m2 212 rfl) rfl
theorem q544 : (Jvm.Cond.laysFinal "LoanNames$Hire" "LoanNames$Sale" "coin" "I") ∈ lw_all := lw_g (lw_at lw_m2 214 rfl) rfl
theorem q546 : (Jvm.Cond.laysFinal "LoanNames$Hire" "LoanNames$Sale" "until" "I") ∈ lw_all := lw_g (lw_at lw_m2 216 rfl) rfl
theorem q548 : (Jvm.Cond.laysFinal "LoanNames$Hire" "LoanNames$Leaf" "a" "I") ∈ lw_all := lw_g (lw_at lw_m2 218 rfl) rfl
theorem q550 : (Jvm.Cond.laysFinal "LoanNames$Hire" "LoanNames$Leaf" "b" "I") ∈ lw_all := lw_g (lw_at lw_m2 220 rfl) rfl
theorem q552 : (Jvm.Cond.laysFinal "LoanNames$Hire" "LoanNames$Leaf" "thing" "I") ∈ lw_all := lw_g (lw_at lw_m2 222 rfl) rfl
theorem q554 : (Jvm.Cond.laysFinal "LoanNames$Hire" "LoanNames$Leaf" "much" "I") ∈ lw_all := lw_g (lw_at lw_m2 224 rfl) rfl
theorem q556 : (Jvm.Cond.laysFinal "LoanNames$Hire" "LoanNames$Leaf" "at" "I") ∈ lw_all := lw_g (lw_at lw_m2 226 rfl) rfl
theorem q558 : (Jvm.Cond.superclass "LoanNames$Hire" "LoanNames$Sale") ∈ lw_all := lw_g (lw_at lw_m2 228 rfl) rfl
theorem q715 : (Jvm.Cond.selects "LoanNames$Hire" ({ cls := "LoanNames$Part", name := "leaves", desc := "(LLoanNames$LeafRow;I)V" } : Jvm.MethodName) ({ cls := "LoanNames$Leaf", name := "leaves", desc := "(LLoanNames$LeafRow;I)V" } : Jvm.MethodName)) ∈ lw_all := lw_g (lw_at lw_m3 145 rfl) rfl
theorem q895 : (Jvm.Cond.selects "LoanNames$Hire" ({ cls := "LoanNames$Leaf", name := "form", desc := "()I" } : Jvm.MethodName) ({ cls := "LoanNames$Hire", name := "form", desc := "()I" } : Jvm.MethodName)) ∈ lw_all := lw_g (lw_at lw_m4 85 rfl) rfl
theorem q896 : (Jvm.Cond.instanceMethod ({ cls := "LoanNames$Hire", name := "form", desc := "()I" } : Jvm.MethodName)) ∈ lw_all := lw_g (lw_at lw_m4 86 rfl) rfl
theorem q897 : (Jvm.Cond.code ({ cls := "LoanNames$Hire", name := "form", desc := "()I" } : Jvm.MethodName) prog_9_method_2_code (1 : Nat) (Option.some Jvm.ClassFile.FieldType.int)) ∈ lw_all := lw_g (lw_at lw_m4 87 rfl) rfl
theorem q907 : (Jvm.Cond.selects "LoanNames$Hire" ({ cls := "LoanNames$Leaf", name := "forCoin", desc := "()I" } : Jvm.MethodName) ({ cls := "LoanNames$Sale", name := "forCoin", desc := "()I" } : Jvm.MethodName)) ∈ lw_all := lw_g (lw_at lw_m4 97 rfl) rfl
theorem q920 : (Jvm.Cond.selects "LoanNames$Hire" ({ cls := "LoanNames$Leaf", name := "until", desc := "()I" } : Jvm.MethodName) ({ cls := "LoanNames$Sale", name := "until", desc := "()I" } : Jvm.MethodName)) ∈ lw_all := lw_g (lw_at lw_m4 110 rfl) rfl
theorem q997 : (Jvm.Cond.selects "LoanNames$Hire" ({ cls := "LoanNames$Part", name := "isLike", desc := "(LLoanNames$Part;)Z" } : Jvm.MethodName) ({ cls := "LoanNames$Leaf", name := "isLike", desc := "(LLoanNames$Part;)Z" } : Jvm.MethodName)) ∈ lw_all := lw_g (lw_at lw_m4 187 rfl) rfl
theorem q1026 : (Jvm.Cond.selects "LoanNames$Hire" ({ cls := "LoanNames$Part", name := "hasChoice", desc := "()Z" } : Jvm.MethodName) ({ cls := "LoanNames$Leaf", name := "hasChoice", desc := "()Z" } : Jvm.MethodName)) ∈ lw_all := lw_g (lw_at lw_m4 216 rfl) rfl
theorem q1053 : (Jvm.Cond.selects "LoanNames$Hire" ({ cls := "LoanNames$Part", name := "plain", desc := "(LLoanNames$Plain;)LLoanNames$All;" } : Jvm.MethodName) ({ cls := "LoanNames$Leaf", name := "plain", desc := "(LLoanNames$Plain;)LLoanNames$All;" } : Jvm.MethodName)) ∈ lw_all := lw_g (lw_at lw_m5 3 rfl) rfl
theorem q1058 : (Jvm.Cond.selects "LoanNames$Hire" ({ cls := "LoanNames$Leaf", name := "alone", desc := "()LLoanNames$All;" } : Jvm.MethodName) ({ cls := "LoanNames$Part", name := "alone", desc := "()LLoanNames$All;" } : Jvm.MethodName)) ∈ lw_all := lw_g (lw_at lw_m5 8 rfl) rfl
theorem q1119 : (Jvm.Cond.selects "LoanNames$Hire" ({ cls := "LoanNames$Part", name := "passes", desc := "(LLoanNames$Sink;IJI)V" } : Jvm.MethodName) ({ cls := "LoanNames$Hire", name := "passes", desc := "(LLoanNames$Sink;IJI)V" } : Jvm.MethodName)) ∈ lw_all := lw_g (lw_at lw_m5 69 rfl) rfl
theorem q1120 : (Jvm.Cond.instanceMethod ({ cls := "LoanNames$Hire", name := "passes", desc := "(LLoanNames$Sink;IJI)V" } : Jvm.MethodName)) ∈ lw_all := lw_g (lw_at lw_m5 70 rfl) rfl
theorem q1121 : (Jvm.Cond.code ({ cls := "LoanNames$Hire", name := "passes", desc := "(LLoanNames$Sink;IJI)V" } : Jvm.MethodName) prog_9_method_3_code (6 : Nat) (Option.none : Option Jvm.ClassFile.FieldType)) ∈ lw_all := lw_g (lw_at lw_m5 71 rfl) rfl
theorem q1122 : (Jvm.Cond.methodLink "LoanNames$Hire" (27 : Nat) ({ cls := "LoanNames$Sink", name := "add", desc := "(IIIIJ)V" } : Jvm.MethodName)) ∈ lw_all := lw_g (lw_at lw_m5 72 rfl) rfl
theorem q2151 : (Jvm.Cond.castable "LoanNames$Hire" "LoanNames$Leaf") ∈ lw_tbl := lw_at lw_m9 141 rfl
theorem q2154 : (Jvm.Cond.castable "LoanNames$Hire" "LoanNames$Part") ∈ lw_tbl := lw_at lw_m9 144 rfl
theorem in_X12 : ∀ w ∈ wsX120, w ∈ lw_all := lw_in wsX120 [548, 550, 552, 554, 556, 544, 546] (by decide +kernel) (by decide +kernel)
/-! LoanNames$Pass -/
set_option maxRecDepth 100000
def RX13 : String := "LoanNames$Pass"
def TX13 : u_T := fun k => match k with
  | 0 => ("LoanNames$Leaf", "a", "I", true)
  | 1 => ("LoanNames$Leaf", "b", "I", true)
  | 2 => ("LoanNames$Leaf", "thing", "I", true)
  | 3 => ("LoanNames$Leaf", "much", "I", true)
  | 4 => ("LoanNames$Leaf", "at", "I", true)
  | _ => ("LoanNames$Pass", "form", "I", true)
def tyX13 : Nat → FieldType := fun k => match k with
  | 0 => .int
  | 1 => .int
  | 2 => .int
  | 3 => .int
  | 4 => .int
  | _ => .int
abbrev wsX130 : List Cond := u_ws RX13 TX13 6
theorem nmX13 : ∀ a, a < 6 → ∀ b, b < 6 → a ≠ b → (TX13 a).2.1 ≠ (TX13 b).2.1 := by decide +kernel
theorem tyX13_ok : ∀ k, k < 6 → parseFieldDescriptor (TX13 k).2.2.1 = some (tyX13 k) := by decide +kernel
abbrev cX13_init : ByteArray := prog_16_method_1_code
def yX13_init : MethodName := ⟨RX13, "<init>", "(IIIIII)V"⟩
def dkwX13_init_0 : List UInt8 := [42, 28, 29, 21, 4, 21, 5, 21, 6, 183, 0, 1, 42, 27, 181, 0, 7, 177]
abbrev dktX13_init_0 : List UInt8 := dkwX13_init_0 ++ []
theorem dksX13_init_0 : cX13_init.data.toList.drop 0 = dktX13_init_0 := by decide +kernel
theorem dX13_init_0 : decode cX13_init 0 = .ok (.aload_n 0, 1) := dk_42 (dk_at dksX13_init_0 0 rfl rfl)
theorem dX13_init_1 : decode cX13_init 1 = .ok (.iload_n 2, 1) := dk_28 (dk_at dksX13_init_0 1 rfl rfl)
theorem dX13_init_2 : decode cX13_init 2 = .ok (.iload_n 3, 1) := dk_29 (dk_at dksX13_init_0 2 rfl rfl)
theorem dX13_init_3 : decode cX13_init 3 = .ok (.iload 4, 2) := dk_21 4 (dk_at dksX13_init_0 3 rfl rfl)
theorem dX13_init_5 : decode cX13_init 5 = .ok (.iload 5, 2) := dk_21 5 (dk_at dksX13_init_0 5 rfl rfl)
theorem dX13_init_7 : decode cX13_init 7 = .ok (.iload 6, 2) := dk_21 6 (dk_at dksX13_init_0 7 rfl rfl)
theorem dX13_init_9 : decode cX13_init 9 = .ok (.invokespecial 1, 3) := dk_183 0 1 (dk_at dksX13_init_0 9 rfl rfl)
theorem dX13_init_12 : decode cX13_init 12 = .ok (.aload_n 0, 1) := dk_42 (dk_at dksX13_init_0 12 rfl rfl)
theorem dX13_init_13 : decode cX13_init 13 = .ok (.iload_n 1, 1) := dk_27 (dk_at dksX13_init_0 13 rfl rfl)
theorem dX13_init_14 : decode cX13_init 14 = .ok (.putfield 7, 3) := dk_181 0 7 (dk_at dksX13_init_0 14 rfl rfl)
theorem dX13_init_17 : decode cX13_init 17 = .ok (.return_, 1) := dk_177 (dk_at dksX13_init_0 17 rfl rfl)
abbrev cX13_form : ByteArray := prog_16_method_2_code
def yX13_form : MethodName := ⟨RX13, "form", "()I"⟩
theorem dX13_form_0 : decode cX13_form 0 = .ok (.aload_n 0, 1) := by decide +kernel
theorem dX13_form_1 : decode cX13_form 1 = .ok (.getfield 7, 3) := by decide +kernel
theorem dX13_form_4 : decode cX13_form 4 = .ok (.ireturn, 1) := by decide +kernel
theorem q104 : (Jvm.Cond.initialized "LoanNames$Pass") ∈ lw_all := lw_g (lw_at lw_m1 14 rfl) rfl
theorem q560 : (Jvm.Cond.instantiable "LoanNames$Pass" (6 : Nat)) ∈ lw_all := lw_g (lw_at lw_m2 230 rfl) rfl
theorem q562 : (Jvm.Cond.instanceMethod ({ cls := "LoanNames$Pass", name := "<init>", desc := "(IIIIII)V" } : Jvm.MethodName)) ∈ lw_all := lw_g (lw_at lw_m2 232 rfl) rfl
theorem q563 : (Jvm.Cond.code ({ cls := "LoanNames$Pass", name := "<init>", desc := "(IIIIII)V" } : Jvm.MethodName) prog_16_method_1_code (7 : Nat) (Option.none : Option Jvm.ClassFile.FieldType)) ∈ lw_all := lw_g (lw_at lw_m2 233 rfl) rfl
theorem q564 : (Jvm.Cond.methodLink "LoanNames$Pass" (1 : Nat) ({ cls := "LoanNames$Leaf", name := "<init>", desc := "(IIIII)V" } : Jvm.MethodName)) ∈ lw_all := lw_g (lw_at lw_m2 234 rfl) rfl
theorem q565 : (Jvm.Cond.fieldLink "LoanNames$Pass" (7 : Nat) "LoanNames$Pass" "form" "I") ∈ lw_all := lw_g (lw_at lw_m2 235 rfl) rfl
theorem q566 : (Jvm.Cond.laysFinal "LoanNames$Pass" "LoanNames$Pass" "form" "I") ∈ lw_all := lw_g (lw_at lw_m2 236 rfl) rfl
theorem q567 : (Jvm.Cond.soleField "LoanNames$Pass" "form") ∈ lw_all := lw_g (lw_at lw_m2 237 rfl) rfl
theorem q568 : (Jvm.Cond.laysFinal "LoanNames$Pass" "LoanNames$Leaf" "a" "I") ∈ lw_all := lw_g (lw_at lw_m2 238 rfl) rfl
theorem q569 : (Jvm.Cond.laysFinal "LoanNames$Pass" "LoanNames$Leaf" "b" "I") ∈ lw_all := lw_g (lw_at lw_m2 239 rfl) rfl
theorem q570 : (Jvm.Cond.laysFinal "LoanNames$Pass" "LoanNames$Leaf" "thing" "I") ∈ lw_all := lw_g (lw_at lw_m3 0 rfl) rfl
theorem q571 : (Jvm.Cond.laysFinal "LoanNames$Pass" "LoanNames$Leaf" "much" "I") ∈ lw_all := lw_g (lw_at lw_m3 1 rfl) rfl
theorem q572 : (Jvm.Cond.laysFinal "LoanNames$Pass" "LoanNames$Leaf" "at" "I") ∈ lw_all := lw_g (lw_at lw_m3 2 rfl) rfl
theorem q573 : (Jvm.Cond.superclass "LoanNames$Pass" "LoanNames$Leaf") ∈ lw_all := lw_g (lw_at lw_m3 3 rfl) rfl
theorem q723 : (Jvm.Cond.selects "LoanNames$Pass" ({ cls := "LoanNames$Part", name := "leaves", desc := "(LLoanNames$LeafRow;I)V" } : Jvm.MethodName) ({ cls := "LoanNames$Leaf", name := "leaves", desc := "(LLoanNames$LeafRow;I)V" } : Jvm.MethodName)) ∈ lw_all := lw_g (lw_at lw_m3 153 rfl) rfl
theorem q898 : (Jvm.Cond.selects "LoanNames$Pass" ({ cls := "LoanNames$Leaf", name := "form", desc := "()I" } : Jvm.MethodName) ({ cls := "LoanNames$Pass", name := "form", desc := "()I" } : Jvm.MethodName)) ∈ lw_all := lw_g (lw_at lw_m4 88 rfl) rfl
theorem q899 : (Jvm.Cond.instanceMethod ({ cls := "LoanNames$Pass", name := "form", desc := "()I" } : Jvm.MethodName)) ∈ lw_all := lw_g (lw_at lw_m4 89 rfl) rfl
theorem q900 : (Jvm.Cond.code ({ cls := "LoanNames$Pass", name := "form", desc := "()I" } : Jvm.MethodName) prog_16_method_2_code (1 : Nat) (Option.some Jvm.ClassFile.FieldType.int)) ∈ lw_all := lw_g (lw_at lw_m4 90 rfl) rfl
theorem q910 : (Jvm.Cond.selects "LoanNames$Pass" ({ cls := "LoanNames$Leaf", name := "forCoin", desc := "()I" } : Jvm.MethodName) ({ cls := "LoanNames$Leaf", name := "forCoin", desc := "()I" } : Jvm.MethodName)) ∈ lw_all := lw_g (lw_at lw_m4 100 rfl) rfl
theorem q923 : (Jvm.Cond.selects "LoanNames$Pass" ({ cls := "LoanNames$Leaf", name := "until", desc := "()I" } : Jvm.MethodName) ({ cls := "LoanNames$Leaf", name := "until", desc := "()I" } : Jvm.MethodName)) ∈ lw_all := lw_g (lw_at lw_m4 113 rfl) rfl
theorem q1005 : (Jvm.Cond.selects "LoanNames$Pass" ({ cls := "LoanNames$Part", name := "isLike", desc := "(LLoanNames$Part;)Z" } : Jvm.MethodName) ({ cls := "LoanNames$Leaf", name := "isLike", desc := "(LLoanNames$Part;)Z" } : Jvm.MethodName)) ∈ lw_all := lw_g (lw_at lw_m4 195 rfl) rfl
theorem q1032 : (Jvm.Cond.selects "LoanNames$Pass" ({ cls := "LoanNames$Part", name := "hasChoice", desc := "()Z" } : Jvm.MethodName) ({ cls := "LoanNames$Leaf", name := "hasChoice", desc := "()Z" } : Jvm.MethodName)) ∈ lw_all := lw_g (lw_at lw_m4 222 rfl) rfl
theorem q1059 : (Jvm.Cond.selects "LoanNames$Pass" ({ cls := "LoanNames$Leaf", name := "alone", desc := "()LLoanNames$All;" } : Jvm.MethodName) ({ cls := "LoanNames$Part", name := "alone", desc := "()LLoanNames$All;" } : Jvm.MethodName)) ∈ lw_all := lw_g (lw_at lw_m5 9 rfl) rfl
theorem q1062 : (Jvm.Cond.selects "LoanNames$Pass" ({ cls := "LoanNames$Part", name := "plain", desc := "(LLoanNames$Plain;)LLoanNames$All;" } : Jvm.MethodName) ({ cls := "LoanNames$Leaf", name := "plain", desc := "(LLoanNames$Plain;)LLoanNames$All;" } : Jvm.MethodName)) ∈ lw_all := lw_g (lw_at lw_m5 12 rfl) rfl
theorem q1127 : (Jvm.Cond.selects "LoanNames$Pass" ({ cls := "LoanNames$Part", name := "passes", desc := "(LLoanNames$Sink;IJI)V" } : Jvm.MethodName) ({ cls := "LoanNames$Leaf", name := "passes", desc := "(LLoanNames$Sink;IJI)V" } : Jvm.MethodName)) ∈ lw_all := lw_g (lw_at lw_m5 77 rfl) rfl
theorem q2152 : (Jvm.Cond.castable "LoanNames$Pass" "LoanNames$Leaf") ∈ lw_tbl := lw_at lw_m9 142 rfl
theorem q2155 : (Jvm.Cond.castable "LoanNames$Pass" "LoanNames$Part") ∈ lw_tbl := lw_at lw_m9 145 rfl
theorem in_X13 : ∀ w ∈ wsX130, w ∈ lw_all := lw_in wsX130 [568, 569, 570, 571, 572, 566] (by decide +kernel) (by decide +kernel)
/-! LoanNames$After -/
set_option maxRecDepth 100000
def RX14 : String := "LoanNames$After"
def TX14 : u_T := fun k => match k with
  | 0 => ("LoanNames$After", "days", "I", true)
  | _ => ("LoanNames$After", "all", "LLoanNames$All;", true)
def tyX14 : Nat → FieldType := fun k => match k with
  | 0 => .int
  | _ => .object "LoanNames$All"
abbrev wsX140 : List Cond := u_ws RX14 TX14 2
theorem nmX14 : ∀ a, a < 2 → ∀ b, b < 2 → a ≠ b → (TX14 a).2.1 ≠ (TX14 b).2.1 := by decide +kernel
theorem tyX14_ok : ∀ k, k < 2 → parseFieldDescriptor (TX14 k).2.2.1 = some (tyX14 k) := by decide +kernel
abbrev cX14_init : ByteArray := prog_2_method_1_code
def yX14_init : MethodName := ⟨RX14, "<init>", "(ILLoanNames$All;)V"⟩
def dkwX14_init_0 : List UInt8 := [42, 183, 0, 1, 42, 27, 181, 0, 7, 42, 44, 181, 0, 13, 177]
abbrev dktX14_init_0 : List UInt8 := dkwX14_init_0 ++ []
theorem dksX14_init_0 : cX14_init.data.toList.drop 0 = dktX14_init_0 := by decide +kernel
theorem dX14_init_0 : decode cX14_init 0 = .ok (.aload_n 0, 1) := dk_42 (dk_at dksX14_init_0 0 rfl rfl)
theorem dX14_init_1 : decode cX14_init 1 = .ok (.invokespecial 1, 3) := dk_183 0 1 (dk_at dksX14_init_0 1 rfl rfl)
theorem dX14_init_4 : decode cX14_init 4 = .ok (.aload_n 0, 1) := dk_42 (dk_at dksX14_init_0 4 rfl rfl)
theorem dX14_init_5 : decode cX14_init 5 = .ok (.iload_n 1, 1) := dk_27 (dk_at dksX14_init_0 5 rfl rfl)
theorem dX14_init_6 : decode cX14_init 6 = .ok (.putfield 7, 3) := dk_181 0 7 (dk_at dksX14_init_0 6 rfl rfl)
theorem dX14_init_9 : decode cX14_init 9 = .ok (.aload_n 0, 1) := dk_42 (dk_at dksX14_init_0 9 rfl rfl)
theorem dX14_init_10 : decode cX14_init 10 = .ok (.aload_n 2, 1) := dk_44 (dk_at dksX14_init_0 10 rfl rfl)
theorem dX14_init_11 : decode cX14_init 11 = .ok (.putfield 13, 3) := dk_181 0 13 (dk_at dksX14_init_0 11 rfl rfl)
theorem dX14_init_14 : decode cX14_init 14 = .ok (.return_, 1) := dk_177 (dk_at dksX14_init_0 14 rfl rfl)
abbrev cX14_leaves : ByteArray := prog_2_method_3_code
def yX14_leaves : MethodName := ⟨RX14, "leaves", "(LLoanNames$LeafRow;I)V"⟩
def dkwX14_leaves_0 : List UInt8 := [42, 180, 0, 13, 43, 28, 42, 180, 0, 7, 96, 182, 0, 23, 177]
abbrev dktX14_leaves_0 : List UInt8 := dkwX14_leaves_0 ++ []
theorem dksX14_leaves_0 : cX14_leaves.data.toList.drop 0 = dktX14_leaves_0 := by decide +kernel
theorem dX14_leaves_0 : decode cX14_leaves 0 = .ok (.aload_n 0, 1) := dk_42 (dk_at dksX14_leaves_0 0 rfl rfl)
theorem dX14_leaves_1 : decode cX14_leaves 1 = .ok (.getfield 13, 3) := dk_180 0 13 (dk_at dksX14_leaves_0 1 rfl rfl)
theorem dX14_leaves_4 : decode cX14_leaves 4 = .ok (.aload_n 1, 1) := dk_43 (dk_at dksX14_leaves_0 4 rfl rfl)
theorem dX14_leaves_5 : decode cX14_leaves 5 = .ok (.iload_n 2, 1) := dk_28 (dk_at dksX14_leaves_0 5 rfl rfl)
theorem dX14_leaves_6 : decode cX14_leaves 6 = .ok (.aload_n 0, 1) := dk_42 (dk_at dksX14_leaves_0 6 rfl rfl)
theorem dX14_leaves_7 : decode cX14_leaves 7 = .ok (.getfield 7, 3) := dk_180 0 7 (dk_at dksX14_leaves_0 7 rfl rfl)
theorem dX14_leaves_10 : decode cX14_leaves 10 = .ok (.iadd, 1) := dk_96 (dk_at dksX14_leaves_0 10 rfl rfl)
theorem dX14_leaves_11 : decode cX14_leaves 11 = .ok (.invokevirtual 23, 3) := dk_182 0 23 (dk_at dksX14_leaves_0 11 rfl rfl)
theorem dX14_leaves_14 : decode cX14_leaves 14 = .ok (.return_, 1) := dk_177 (dk_at dksX14_leaves_0 14 rfl rfl)
abbrev cX14_plain : ByteArray := prog_2_method_6_code
def yX14_plain : MethodName := ⟨RX14, "plain", "(LLoanNames$Plain;)LLoanNames$All;"⟩
def dkwX14_plain_5 : List UInt8 := [180, 0, 7, 25, 4, 180, 0, 7, 96, 25, 4, 180, 0, 13, 183, 0, 51, 182, 0, 54, 176]
abbrev dktX14_plain_5 : List UInt8 := dkwX14_plain_5 ++ []
def dkwX14_plain_4 : List UInt8 := [183, 0, 51, 182, 0, 54, 176, 44, 180, 0, 42, 3, 50, 192, 0, 8, 58, 4, 187, 0, 8, 89, 42]
abbrev dktX14_plain_4 : List UInt8 := dkwX14_plain_4 ++ dktX14_plain_5
def dkwX14_plain_3 : List UInt8 := [42, 180, 0, 7, 154, 0, 5, 44, 176, 29, 154, 0, 19, 187, 0, 8, 89, 42, 180, 0, 7, 44]
abbrev dktX14_plain_3 : List UInt8 := dkwX14_plain_3 ++ dktX14_plain_4
def dkwX14_plain_2 : List UInt8 := [153, 0, 7, 29, 153, 0, 13, 43, 89, 180, 0, 46, 4, 96, 181, 0, 46, 44, 180, 0, 39, 153, 0, 10]
abbrev dktX14_plain_2 : List UInt8 := dkwX14_plain_2 ++ dktX14_plain_3
def dkwX14_plain_1 : List UInt8 := [193, 0, 8, 153, 0, 7, 4, 167, 0, 4, 3, 62, 44, 180, 0, 39, 153, 0, 14, 42, 180, 0, 7]
abbrev dktX14_plain_1 : List UInt8 := dkwX14_plain_1 ++ dktX14_plain_2
def dkwX14_plain_0 : List UInt8 := [42, 180, 0, 13, 43, 182, 0, 35, 77, 44, 180, 0, 39, 4, 160, 0, 19, 44, 180, 0, 42, 3, 50]
abbrev dktX14_plain_0 : List UInt8 := dkwX14_plain_0 ++ dktX14_plain_1
theorem dksX14_plain_0 : cX14_plain.data.toList.drop 0 = dktX14_plain_0 := by decide +kernel
theorem dksX14_plain_1 : cX14_plain.data.toList.drop 23 = dktX14_plain_1 := dk_seg dksX14_plain_0 23 rfl rfl
theorem dksX14_plain_2 : cX14_plain.data.toList.drop 46 = dktX14_plain_2 := dk_seg dksX14_plain_1 23 rfl rfl
theorem dksX14_plain_3 : cX14_plain.data.toList.drop 70 = dktX14_plain_3 := dk_seg dksX14_plain_2 24 rfl rfl
theorem dksX14_plain_4 : cX14_plain.data.toList.drop 92 = dktX14_plain_4 := dk_seg dksX14_plain_3 22 rfl rfl
theorem dksX14_plain_5 : cX14_plain.data.toList.drop 115 = dktX14_plain_5 := dk_seg dksX14_plain_4 23 rfl rfl
theorem dX14_plain_0 : decode cX14_plain 0 = .ok (.aload_n 0, 1) := dk_42 (dk_at dksX14_plain_0 0 rfl rfl)
theorem dX14_plain_1 : decode cX14_plain 1 = .ok (.getfield 13, 3) := dk_180 0 13 (dk_at dksX14_plain_0 1 rfl rfl)
theorem dX14_plain_4 : decode cX14_plain 4 = .ok (.aload_n 1, 1) := dk_43 (dk_at dksX14_plain_0 4 rfl rfl)
theorem dX14_plain_5 : decode cX14_plain 5 = .ok (.invokevirtual 35, 3) := dk_182 0 35 (dk_at dksX14_plain_0 5 rfl rfl)
theorem dX14_plain_8 : decode cX14_plain 8 = .ok (.astore_n 2, 1) := dk_77 (dk_at dksX14_plain_0 8 rfl rfl)
theorem dX14_plain_9 : decode cX14_plain 9 = .ok (.aload_n 2, 1) := dk_44 (dk_at dksX14_plain_0 9 rfl rfl)
theorem dX14_plain_10 : decode cX14_plain 10 = .ok (.getfield 39, 3) := dk_180 0 39 (dk_at dksX14_plain_0 10 rfl rfl)
theorem dX14_plain_13 : decode cX14_plain 13 = .ok (.iconst 1, 1) := dk_4 (dk_at dksX14_plain_0 13 rfl rfl)
theorem dX14_plain_14 : decode cX14_plain 14 = .ok (.if_icmp .ne 19, 3) := dk_160 0 19 (dk_at dksX14_plain_0 14 rfl rfl)
theorem dX14_plain_17 : decode cX14_plain 17 = .ok (.aload_n 2, 1) := dk_44 (dk_at dksX14_plain_0 17 rfl rfl)
theorem dX14_plain_18 : decode cX14_plain 18 = .ok (.getfield 42, 3) := dk_180 0 42 (dk_at dksX14_plain_0 18 rfl rfl)
theorem dX14_plain_21 : decode cX14_plain 21 = .ok (.iconst 0, 1) := dk_3 (dk_at dksX14_plain_0 21 rfl rfl)
theorem dX14_plain_22 : decode cX14_plain 22 = .ok (.aaload, 1) := dk_50 (dk_at dksX14_plain_0 22 rfl rfl)
theorem dX14_plain_23 : decode cX14_plain 23 = .ok (.instanceof 8, 3) := dk_193 0 8 (dk_at dksX14_plain_1 0 rfl rfl)
theorem dX14_plain_26 : decode cX14_plain 26 = .ok (.ifCond .eq 7, 3) := dk_153 0 7 (dk_at dksX14_plain_1 3 rfl rfl)
theorem dX14_plain_29 : decode cX14_plain 29 = .ok (.iconst 1, 1) := dk_4 (dk_at dksX14_plain_1 6 rfl rfl)
theorem dX14_plain_30 : decode cX14_plain 30 = .ok (.goto 4, 3) := dk_167 0 4 (dk_at dksX14_plain_1 7 rfl rfl)
theorem dX14_plain_33 : decode cX14_plain 33 = .ok (.iconst 0, 1) := dk_3 (dk_at dksX14_plain_1 10 rfl rfl)
theorem dX14_plain_34 : decode cX14_plain 34 = .ok (.istore_n 3, 1) := dk_62 (dk_at dksX14_plain_1 11 rfl rfl)
theorem dX14_plain_35 : decode cX14_plain 35 = .ok (.aload_n 2, 1) := dk_44 (dk_at dksX14_plain_1 12 rfl rfl)
theorem dX14_plain_36 : decode cX14_plain 36 = .ok (.getfield 39, 3) := dk_180 0 39 (dk_at dksX14_plain_1 13 rfl rfl)
theorem dX14_plain_39 : decode cX14_plain 39 = .ok (.ifCond .eq 14, 3) := dk_153 0 14 (dk_at dksX14_plain_1 16 rfl rfl)
theorem dX14_plain_42 : decode cX14_plain 42 = .ok (.aload_n 0, 1) := dk_42 (dk_at dksX14_plain_1 19 rfl rfl)
theorem dX14_plain_43 : decode cX14_plain 43 = .ok (.getfield 7, 3) := dk_180 0 7 (dk_at dksX14_plain_1 20 rfl rfl)
theorem dX14_plain_46 : decode cX14_plain 46 = .ok (.ifCond .eq 7, 3) := dk_153 0 7 (dk_at dksX14_plain_2 0 rfl rfl)
theorem dX14_plain_49 : decode cX14_plain 49 = .ok (.iload_n 3, 1) := dk_29 (dk_at dksX14_plain_2 3 rfl rfl)
theorem dX14_plain_50 : decode cX14_plain 50 = .ok (.ifCond .eq 13, 3) := dk_153 0 13 (dk_at dksX14_plain_2 4 rfl rfl)
theorem dX14_plain_53 : decode cX14_plain 53 = .ok (.aload_n 1, 1) := dk_43 (dk_at dksX14_plain_2 7 rfl rfl)
theorem dX14_plain_54 : decode cX14_plain 54 = .ok (.dup, 1) := dk_89 (dk_at dksX14_plain_2 8 rfl rfl)
theorem dX14_plain_55 : decode cX14_plain 55 = .ok (.getfield 46, 3) := dk_180 0 46 (dk_at dksX14_plain_2 9 rfl rfl)
theorem dX14_plain_58 : decode cX14_plain 58 = .ok (.iconst 1, 1) := dk_4 (dk_at dksX14_plain_2 12 rfl rfl)
theorem dX14_plain_59 : decode cX14_plain 59 = .ok (.iadd, 1) := dk_96 (dk_at dksX14_plain_2 13 rfl rfl)
theorem dX14_plain_60 : decode cX14_plain 60 = .ok (.putfield 46, 3) := dk_181 0 46 (dk_at dksX14_plain_2 14 rfl rfl)
theorem dX14_plain_63 : decode cX14_plain 63 = .ok (.aload_n 2, 1) := dk_44 (dk_at dksX14_plain_2 17 rfl rfl)
theorem dX14_plain_64 : decode cX14_plain 64 = .ok (.getfield 39, 3) := dk_180 0 39 (dk_at dksX14_plain_2 18 rfl rfl)
theorem dX14_plain_67 : decode cX14_plain 67 = .ok (.ifCond .eq 10, 3) := dk_153 0 10 (dk_at dksX14_plain_2 21 rfl rfl)
theorem dX14_plain_70 : decode cX14_plain 70 = .ok (.aload_n 0, 1) := dk_42 (dk_at dksX14_plain_3 0 rfl rfl)
theorem dX14_plain_71 : decode cX14_plain 71 = .ok (.getfield 7, 3) := dk_180 0 7 (dk_at dksX14_plain_3 1 rfl rfl)
theorem dX14_plain_74 : decode cX14_plain 74 = .ok (.ifCond .ne 5, 3) := dk_154 0 5 (dk_at dksX14_plain_3 4 rfl rfl)
theorem dX14_plain_77 : decode cX14_plain 77 = .ok (.aload_n 2, 1) := dk_44 (dk_at dksX14_plain_3 7 rfl rfl)
theorem dX14_plain_78 : decode cX14_plain 78 = .ok (.areturn, 1) := dk_176 (dk_at dksX14_plain_3 8 rfl rfl)
theorem dX14_plain_79 : decode cX14_plain 79 = .ok (.iload_n 3, 1) := dk_29 (dk_at dksX14_plain_3 9 rfl rfl)
theorem dX14_plain_80 : decode cX14_plain 80 = .ok (.ifCond .ne 19, 3) := dk_154 0 19 (dk_at dksX14_plain_3 10 rfl rfl)
theorem dX14_plain_83 : decode cX14_plain 83 = .ok (.new 8, 3) := dk_187 0 8 (dk_at dksX14_plain_3 13 rfl rfl)
theorem dX14_plain_86 : decode cX14_plain 86 = .ok (.dup, 1) := dk_89 (dk_at dksX14_plain_3 16 rfl rfl)
theorem dX14_plain_87 : decode cX14_plain 87 = .ok (.aload_n 0, 1) := dk_42 (dk_at dksX14_plain_3 17 rfl rfl)
theorem dX14_plain_88 : decode cX14_plain 88 = .ok (.getfield 7, 3) := dk_180 0 7 (dk_at dksX14_plain_3 18 rfl rfl)
theorem dX14_plain_91 : decode cX14_plain 91 = .ok (.aload_n 2, 1) := dk_44 (dk_at dksX14_plain_3 21 rfl rfl)
theorem dX14_plain_92 : decode cX14_plain 92 = .ok (.invokespecial 51, 3) := dk_183 0 51 (dk_at dksX14_plain_4 0 rfl rfl)
theorem dX14_plain_95 : decode cX14_plain 95 = .ok (.invokevirtual 54, 3) := dk_182 0 54 (dk_at dksX14_plain_4 3 rfl rfl)
theorem dX14_plain_98 : decode cX14_plain 98 = .ok (.areturn, 1) := dk_176 (dk_at dksX14_plain_4 6 rfl rfl)
theorem dX14_plain_99 : decode cX14_plain 99 = .ok (.aload_n 2, 1) := dk_44 (dk_at dksX14_plain_4 7 rfl rfl)
theorem dX14_plain_100 : decode cX14_plain 100 = .ok (.getfield 42, 3) := dk_180 0 42 (dk_at dksX14_plain_4 8 rfl rfl)
theorem dX14_plain_103 : decode cX14_plain 103 = .ok (.iconst 0, 1) := dk_3 (dk_at dksX14_plain_4 11 rfl rfl)
theorem dX14_plain_104 : decode cX14_plain 104 = .ok (.aaload, 1) := dk_50 (dk_at dksX14_plain_4 12 rfl rfl)
theorem dX14_plain_105 : decode cX14_plain 105 = .ok (.checkcast 8, 3) := dk_192 0 8 (dk_at dksX14_plain_4 13 rfl rfl)
theorem dX14_plain_108 : decode cX14_plain 108 = .ok (.astore 4, 2) := dk_58 4 (dk_at dksX14_plain_4 16 rfl rfl)
theorem dX14_plain_110 : decode cX14_plain 110 = .ok (.new 8, 3) := dk_187 0 8 (dk_at dksX14_plain_4 18 rfl rfl)
theorem dX14_plain_113 : decode cX14_plain 113 = .ok (.dup, 1) := dk_89 (dk_at dksX14_plain_4 21 rfl rfl)
theorem dX14_plain_114 : decode cX14_plain 114 = .ok (.aload_n 0, 1) := dk_42 (dk_at dksX14_plain_4 22 rfl rfl)
theorem dX14_plain_115 : decode cX14_plain 115 = .ok (.getfield 7, 3) := dk_180 0 7 (dk_at dksX14_plain_5 0 rfl rfl)
theorem dX14_plain_118 : decode cX14_plain 118 = .ok (.aload 4, 2) := dk_25 4 (dk_at dksX14_plain_5 3 rfl rfl)
theorem dX14_plain_120 : decode cX14_plain 120 = .ok (.getfield 7, 3) := dk_180 0 7 (dk_at dksX14_plain_5 5 rfl rfl)
theorem dX14_plain_123 : decode cX14_plain 123 = .ok (.iadd, 1) := dk_96 (dk_at dksX14_plain_5 8 rfl rfl)
theorem dX14_plain_124 : decode cX14_plain 124 = .ok (.aload 4, 2) := dk_25 4 (dk_at dksX14_plain_5 9 rfl rfl)
theorem dX14_plain_126 : decode cX14_plain 126 = .ok (.getfield 13, 3) := dk_180 0 13 (dk_at dksX14_plain_5 11 rfl rfl)
theorem dX14_plain_129 : decode cX14_plain 129 = .ok (.invokespecial 51, 3) := dk_183 0 51 (dk_at dksX14_plain_5 14 rfl rfl)
theorem dX14_plain_132 : decode cX14_plain 132 = .ok (.invokevirtual 54, 3) := dk_182 0 54 (dk_at dksX14_plain_5 17 rfl rfl)
theorem dX14_plain_135 : decode cX14_plain 135 = .ok (.areturn, 1) := dk_176 (dk_at dksX14_plain_5 20 rfl rfl)
abbrev cX14_isLike : ByteArray := prog_2_method_5_code
def yX14_isLike : MethodName := ⟨RX14, "isLike", "(LLoanNames$Part;)Z"⟩
def dkwX14_isLike_1 : List UInt8 := [192, 0, 8, 180, 0, 13, 42, 180, 0, 13, 182, 0, 31, 153, 0, 7, 4, 167, 0, 4, 3, 172]
abbrev dktX14_isLike_1 : List UInt8 := dkwX14_isLike_1 ++ []
def dkwX14_isLike_0 : List UInt8 := [43, 193, 0, 8, 153, 0, 38, 43, 192, 0, 8, 180, 0, 7, 42, 180, 0, 7, 160, 0, 24, 43]
abbrev dktX14_isLike_0 : List UInt8 := dkwX14_isLike_0 ++ dktX14_isLike_1
theorem dksX14_isLike_0 : cX14_isLike.data.toList.drop 0 = dktX14_isLike_0 := by decide +kernel
theorem dksX14_isLike_1 : cX14_isLike.data.toList.drop 22 = dktX14_isLike_1 := dk_seg dksX14_isLike_0 22 rfl rfl
theorem dX14_isLike_0 : decode cX14_isLike 0 = .ok (.aload_n 1, 1) := dk_43 (dk_at dksX14_isLike_0 0 rfl rfl)
theorem dX14_isLike_1 : decode cX14_isLike 1 = .ok (.instanceof 8, 3) := dk_193 0 8 (dk_at dksX14_isLike_0 1 rfl rfl)
theorem dX14_isLike_4 : decode cX14_isLike 4 = .ok (.ifCond .eq 38, 3) := dk_153 0 38 (dk_at dksX14_isLike_0 4 rfl rfl)
theorem dX14_isLike_7 : decode cX14_isLike 7 = .ok (.aload_n 1, 1) := dk_43 (dk_at dksX14_isLike_0 7 rfl rfl)
theorem dX14_isLike_8 : decode cX14_isLike 8 = .ok (.checkcast 8, 3) := dk_192 0 8 (dk_at dksX14_isLike_0 8 rfl rfl)
theorem dX14_isLike_11 : decode cX14_isLike 11 = .ok (.getfield 7, 3) := dk_180 0 7 (dk_at dksX14_isLike_0 11 rfl rfl)
theorem dX14_isLike_14 : decode cX14_isLike 14 = .ok (.aload_n 0, 1) := dk_42 (dk_at dksX14_isLike_0 14 rfl rfl)
theorem dX14_isLike_15 : decode cX14_isLike 15 = .ok (.getfield 7, 3) := dk_180 0 7 (dk_at dksX14_isLike_0 15 rfl rfl)
theorem dX14_isLike_18 : decode cX14_isLike 18 = .ok (.if_icmp .ne 24, 3) := dk_160 0 24 (dk_at dksX14_isLike_0 18 rfl rfl)
theorem dX14_isLike_21 : decode cX14_isLike 21 = .ok (.aload_n 1, 1) := dk_43 (dk_at dksX14_isLike_0 21 rfl rfl)
theorem dX14_isLike_22 : decode cX14_isLike 22 = .ok (.checkcast 8, 3) := dk_192 0 8 (dk_at dksX14_isLike_1 0 rfl rfl)
theorem dX14_isLike_25 : decode cX14_isLike 25 = .ok (.getfield 13, 3) := dk_180 0 13 (dk_at dksX14_isLike_1 3 rfl rfl)
theorem dX14_isLike_28 : decode cX14_isLike 28 = .ok (.aload_n 0, 1) := dk_42 (dk_at dksX14_isLike_1 6 rfl rfl)
theorem dX14_isLike_29 : decode cX14_isLike 29 = .ok (.getfield 13, 3) := dk_180 0 13 (dk_at dksX14_isLike_1 7 rfl rfl)
theorem dX14_isLike_32 : decode cX14_isLike 32 = .ok (.invokevirtual 31, 3) := dk_182 0 31 (dk_at dksX14_isLike_1 10 rfl rfl)
theorem dX14_isLike_35 : decode cX14_isLike 35 = .ok (.ifCond .eq 7, 3) := dk_153 0 7 (dk_at dksX14_isLike_1 13 rfl rfl)
theorem dX14_isLike_38 : decode cX14_isLike 38 = .ok (.iconst 1, 1) := dk_4 (dk_at dksX14_isLike_1 16 rfl rfl)
theorem dX14_isLike_39 : decode cX14_isLike 39 = .ok (.goto 4, 3) := dk_167 0 4 (dk_at dksX14_isLike_1 17 rfl rfl)
theorem dX14_isLike_42 : decode cX14_isLike 42 = .ok (.iconst 0, 1) := dk_3 (dk_at dksX14_isLike_1 20 rfl rfl)
theorem dX14_isLike_43 : decode cX14_isLike 43 = .ok (.ireturn, 1) := dk_172 (dk_at dksX14_isLike_1 21 rfl rfl)
abbrev cX14_hasChoice : ByteArray := prog_2_method_4_code
def yX14_hasChoice : MethodName := ⟨RX14, "hasChoice", "()Z"⟩
def dkwX14_hasChoice_0 : List UInt8 := [42, 180, 0, 13, 182, 0, 27, 172]
abbrev dktX14_hasChoice_0 : List UInt8 := dkwX14_hasChoice_0 ++ []
theorem dksX14_hasChoice_0 : cX14_hasChoice.data.toList.drop 0 = dktX14_hasChoice_0 := by decide +kernel
theorem dX14_hasChoice_0 : decode cX14_hasChoice 0 = .ok (.aload_n 0, 1) := dk_42 (dk_at dksX14_hasChoice_0 0 rfl rfl)
theorem dX14_hasChoice_1 : decode cX14_hasChoice 1 = .ok (.getfield 13, 3) := dk_180 0 13 (dk_at dksX14_hasChoice_0 1 rfl rfl)
theorem dX14_hasChoice_4 : decode cX14_hasChoice 4 = .ok (.invokevirtual 27, 3) := dk_182 0 27 (dk_at dksX14_hasChoice_0 4 rfl rfl)
theorem dX14_hasChoice_7 : decode cX14_hasChoice 7 = .ok (.ireturn, 1) := dk_172 (dk_at dksX14_hasChoice_0 7 rfl rfl)
abbrev cX14_passes : ByteArray := prog_2_method_2_code
def yX14_passes : MethodName := ⟨RX14, "passes", "(LLoanNames$Sink;IJI)V"⟩
def dkwX14_passes_0 : List UInt8 := [42, 180, 0, 13, 43, 28, 42, 180, 0, 7, 96, 33, 21, 5, 182, 0, 17, 177]
abbrev dktX14_passes_0 : List UInt8 := dkwX14_passes_0 ++ []
theorem dksX14_passes_0 : cX14_passes.data.toList.drop 0 = dktX14_passes_0 := by decide +kernel
theorem dX14_passes_0 : decode cX14_passes 0 = .ok (.aload_n 0, 1) := dk_42 (dk_at dksX14_passes_0 0 rfl rfl)
theorem dX14_passes_1 : decode cX14_passes 1 = .ok (.getfield 13, 3) := dk_180 0 13 (dk_at dksX14_passes_0 1 rfl rfl)
theorem dX14_passes_4 : decode cX14_passes 4 = .ok (.aload_n 1, 1) := dk_43 (dk_at dksX14_passes_0 4 rfl rfl)
theorem dX14_passes_5 : decode cX14_passes 5 = .ok (.iload_n 2, 1) := dk_28 (dk_at dksX14_passes_0 5 rfl rfl)
theorem dX14_passes_6 : decode cX14_passes 6 = .ok (.aload_n 0, 1) := dk_42 (dk_at dksX14_passes_0 6 rfl rfl)
theorem dX14_passes_7 : decode cX14_passes 7 = .ok (.getfield 7, 3) := dk_180 0 7 (dk_at dksX14_passes_0 7 rfl rfl)
theorem dX14_passes_10 : decode cX14_passes 10 = .ok (.iadd, 1) := dk_96 (dk_at dksX14_passes_0 10 rfl rfl)
theorem dX14_passes_11 : decode cX14_passes 11 = .ok (.lload_n 3, 1) := dk_33 (dk_at dksX14_passes_0 11 rfl rfl)
theorem dX14_passes_12 : decode cX14_passes 12 = .ok (.iload 5, 2) := dk_21 5 (dk_at dksX14_passes_0 12 rfl rfl)
theorem dX14_passes_14 : decode cX14_passes 14 = .ok (.invokevirtual 17, 3) := dk_182 0 17 (dk_at dksX14_passes_0 14 rfl rfl)
theorem dX14_passes_17 : decode cX14_passes 17 = .ok (.return_, 1) := dk_177 (dk_at dksX14_passes_0 17 rfl rfl)
theorem q105 : (Jvm.Cond.initialized "LoanNames$After") ∈ lw_all := lw_g (lw_at lw_m1 15 rfl) rfl
theorem q424 : (Jvm.Cond.fieldLink "LoanNames$After" (42 : Nat) "LoanNames$All" "parts" "[LLoanNames$Part;") ∈ lw_all := lw_g (lw_at lw_m2 94 rfl) rfl
theorem q426 : (Jvm.Cond.fieldLink "LoanNames$After" (39 : Nat) "LoanNames$All" "many" "I") ∈ lw_all := lw_g (lw_at lw_m2 96 rfl) rfl
theorem q594 : (Jvm.Cond.instantiable "LoanNames$After" (2 : Nat)) ∈ lw_all := lw_g (lw_at lw_m3 24 rfl) rfl
theorem q606 : (Jvm.Cond.instanceMethod ({ cls := "LoanNames$After", name := "<init>", desc := "(ILLoanNames$All;)V" } : Jvm.MethodName)) ∈ lw_all := lw_g (lw_at lw_m3 36 rfl) rfl
theorem q607 : (Jvm.Cond.code ({ cls := "LoanNames$After", name := "<init>", desc := "(ILLoanNames$All;)V" } : Jvm.MethodName) prog_2_method_1_code (3 : Nat) (Option.none : Option Jvm.ClassFile.FieldType)) ∈ lw_all := lw_g (lw_at lw_m3 37 rfl) rfl
theorem q608 : (Jvm.Cond.methodLinkNest "LoanNames$After" (1 : Nat) ({ cls := "LoanNames$Part", name := "<init>", desc := "()V" } : Jvm.MethodName) "LoanNames") ∈ lw_tbl := lw_at lw_m3 38 rfl
theorem q609 : (Jvm.Cond.fieldLink "LoanNames$After" (7 : Nat) "LoanNames$After" "days" "I") ∈ lw_all := lw_g (lw_at lw_m3 39 rfl) rfl
theorem q610 : (Jvm.Cond.fieldLink "LoanNames$After" (13 : Nat) "LoanNames$After" "all" "LLoanNames$All;") ∈ lw_all := lw_g (lw_at lw_m3 40 rfl) rfl
theorem q611 : (Jvm.Cond.laysFinal "LoanNames$After" "LoanNames$After" "days" "I") ∈ lw_all := lw_g (lw_at lw_m3 41 rfl) rfl
theorem q612 : (Jvm.Cond.soleField "LoanNames$After" "days") ∈ lw_all := lw_g (lw_at lw_m3 42 rfl) rfl
theorem q613 : (Jvm.Cond.laysFinal "LoanNames$After" "LoanNames$After" "all" "LLoanNames$All;") ∈ lw_all := lw_g (lw_at lw_m3 43 rfl) rfl
theorem q614 : (Jvm.Cond.soleField "LoanNames$After" "all") ∈ lw_all := lw_g (lw_at lw_m3 44 rfl) rfl
theorem q615 : (Jvm.Cond.superclass "LoanNames$After" "LoanNames$Part") ∈ lw_all := lw_g (lw_at lw_m3 45 rfl) rfl
theorem q707 : (Jvm.Cond.selects "LoanNames$After" ({ cls := "LoanNames$Part", name := "leaves", desc := "(LLoanNames$LeafRow;I)V" } : Jvm.MethodName) ({ cls := "LoanNames$After", name := "leaves", desc := "(LLoanNames$LeafRow;I)V" } : Jvm.MethodName)) ∈ lw_all := lw_g (lw_at lw_m3 137 rfl) rfl
theorem q708 : (Jvm.Cond.instanceMethod ({ cls := "LoanNames$After", name := "leaves", desc := "(LLoanNames$LeafRow;I)V" } : Jvm.MethodName)) ∈ lw_all := lw_g (lw_at lw_m3 138 rfl) rfl
theorem q709 : (Jvm.Cond.code ({ cls := "LoanNames$After", name := "leaves", desc := "(LLoanNames$LeafRow;I)V" } : Jvm.MethodName) prog_2_method_3_code (3 : Nat) (Option.none : Option Jvm.ClassFile.FieldType)) ∈ lw_all := lw_g (lw_at lw_m3 139 rfl) rfl
theorem q710 : (Jvm.Cond.methodLink "LoanNames$After" (23 : Nat) ({ cls := "LoanNames$All", name := "leaves", desc := "(LLoanNames$LeafRow;I)V" } : Jvm.MethodName)) ∈ lw_all := lw_g (lw_at lw_m3 140 rfl) rfl
theorem q937 : (Jvm.Cond.fieldLink "LoanNames$After" (46 : Nat) "LoanNames$Plain" "steps" "I") ∈ lw_all := lw_g (lw_at lw_m4 127 rfl) rfl
theorem q952 : (Jvm.Cond.selects "LoanNames$After" ({ cls := "LoanNames$Part", name := "plain", desc := "(LLoanNames$Plain;)LLoanNames$All;" } : Jvm.MethodName) ({ cls := "LoanNames$After", name := "plain", desc := "(LLoanNames$Plain;)LLoanNames$All;" } : Jvm.MethodName)) ∈ lw_all := lw_g (lw_at lw_m4 142 rfl) rfl
theorem q953 : (Jvm.Cond.instanceMethod ({ cls := "LoanNames$After", name := "plain", desc := "(LLoanNames$Plain;)LLoanNames$All;" } : Jvm.MethodName)) ∈ lw_all := lw_g (lw_at lw_m4 143 rfl) rfl
theorem q954 : (Jvm.Cond.code ({ cls := "LoanNames$After", name := "plain", desc := "(LLoanNames$Plain;)LLoanNames$All;" } : Jvm.MethodName) prog_2_method_6_code (5 : Nat) (Option.some (Jvm.ClassFile.FieldType.object "LoanNames$All"))) ∈ lw_all := lw_g (lw_at lw_m4 144 rfl) rfl
theorem q955 : (Jvm.Cond.methodLink "LoanNames$After" (35 : Nat) ({ cls := "LoanNames$All", name := "plain", desc := "(LLoanNames$Plain;)LLoanNames$All;" } : Jvm.MethodName)) ∈ lw_all := lw_g (lw_at lw_m4 145 rfl) rfl
theorem q956 : (Jvm.Cond.classLink "LoanNames$After" (8 : Nat) "LoanNames$After") ∈ lw_all := lw_g (lw_at lw_m4 146 rfl) rfl
theorem q957 : (Jvm.Cond.methodLink "LoanNames$After" (51 : Nat) ({ cls := "LoanNames$After", name := "<init>", desc := "(ILLoanNames$All;)V" } : Jvm.MethodName)) ∈ lw_all := lw_g (lw_at lw_m4 147 rfl) rfl
theorem q958 : (Jvm.Cond.methodLink "LoanNames$After" (54 : Nat) ({ cls := "LoanNames$After", name := "alone", desc := "()LLoanNames$All;" } : Jvm.MethodName)) ∈ lw_all := lw_g (lw_at lw_m4 148 rfl) rfl
theorem q959 : (Jvm.Cond.sameMethod "LoanNames$After" "LoanNames$Part" "alone" "()LLoanNames$All;") ∈ lw_all := lw_g (lw_at lw_m4 149 rfl) rfl
theorem q961 : (Jvm.Cond.selects "LoanNames$After" ({ cls := "LoanNames$After", name := "alone", desc := "()LLoanNames$All;" } : Jvm.MethodName) ({ cls := "LoanNames$Part", name := "alone", desc := "()LLoanNames$All;" } : Jvm.MethodName)) ∈ lw_all := lw_g (lw_at lw_m4 151 rfl) rfl
theorem q978 : (Jvm.Cond.selects "LoanNames$After" ({ cls := "LoanNames$Part", name := "isLike", desc := "(LLoanNames$Part;)Z" } : Jvm.MethodName) ({ cls := "LoanNames$After", name := "isLike", desc := "(LLoanNames$Part;)Z" } : Jvm.MethodName)) ∈ lw_all := lw_g (lw_at lw_m4 168 rfl) rfl
theorem q979 : (Jvm.Cond.instanceMethod ({ cls := "LoanNames$After", name := "isLike", desc := "(LLoanNames$Part;)Z" } : Jvm.MethodName)) ∈ lw_all := lw_g (lw_at lw_m4 169 rfl) rfl
theorem q980 : (Jvm.Cond.code ({ cls := "LoanNames$After", name := "isLike", desc := "(LLoanNames$Part;)Z" } : Jvm.MethodName) prog_2_method_5_code (2 : Nat) (Option.some Jvm.ClassFile.FieldType.boolean)) ∈ lw_all := lw_g (lw_at lw_m4 170 rfl) rfl
theorem q981 : (Jvm.Cond.methodLink "LoanNames$After" (31 : Nat) ({ cls := "LoanNames$All", name := "isLike", desc := "(LLoanNames$All;)Z" } : Jvm.MethodName)) ∈ lw_all := lw_g (lw_at lw_m4 171 rfl) rfl
theorem q1019 : (Jvm.Cond.selects "LoanNames$After" ({ cls := "LoanNames$Part", name := "hasChoice", desc := "()Z" } : Jvm.MethodName) ({ cls := "LoanNames$After", name := "hasChoice", desc := "()Z" } : Jvm.MethodName)) ∈ lw_all := lw_g (lw_at lw_m4 209 rfl) rfl
theorem q1020 : (Jvm.Cond.instanceMethod ({ cls := "LoanNames$After", name := "hasChoice", desc := "()Z" } : Jvm.MethodName)) ∈ lw_all := lw_g (lw_at lw_m4 210 rfl) rfl
theorem q1021 : (Jvm.Cond.code ({ cls := "LoanNames$After", name := "hasChoice", desc := "()Z" } : Jvm.MethodName) prog_2_method_4_code (1 : Nat) (Option.some Jvm.ClassFile.FieldType.boolean)) ∈ lw_all := lw_g (lw_at lw_m4 211 rfl) rfl
theorem q1022 : (Jvm.Cond.methodLink "LoanNames$After" (27 : Nat) ({ cls := "LoanNames$All", name := "hasChoice", desc := "()Z" } : Jvm.MethodName)) ∈ lw_all := lw_g (lw_at lw_m4 212 rfl) rfl
theorem q1098 : (Jvm.Cond.selects "LoanNames$After" ({ cls := "LoanNames$Part", name := "passes", desc := "(LLoanNames$Sink;IJI)V" } : Jvm.MethodName) ({ cls := "LoanNames$After", name := "passes", desc := "(LLoanNames$Sink;IJI)V" } : Jvm.MethodName)) ∈ lw_all := lw_g (lw_at lw_m5 48 rfl) rfl
theorem q1099 : (Jvm.Cond.instanceMethod ({ cls := "LoanNames$After", name := "passes", desc := "(LLoanNames$Sink;IJI)V" } : Jvm.MethodName)) ∈ lw_all := lw_g (lw_at lw_m5 49 rfl) rfl
theorem q1100 : (Jvm.Cond.code ({ cls := "LoanNames$After", name := "passes", desc := "(LLoanNames$Sink;IJI)V" } : Jvm.MethodName) prog_2_method_2_code (6 : Nat) (Option.none : Option Jvm.ClassFile.FieldType)) ∈ lw_all := lw_g (lw_at lw_m5 50 rfl) rfl
theorem q1101 : (Jvm.Cond.methodLink "LoanNames$After" (17 : Nat) ({ cls := "LoanNames$All", name := "passes", desc := "(LLoanNames$Sink;IJI)V" } : Jvm.MethodName)) ∈ lw_all := lw_g (lw_at lw_m5 51 rfl) rfl
theorem q2157 : (Jvm.Cond.castable "LoanNames$After" "LoanNames$Part") ∈ lw_tbl := lw_at lw_m9 147 rfl
theorem in_X14 : ∀ w ∈ wsX140, w ∈ lw_all := lw_in wsX140 [611, 613] (by decide +kernel) (by decide +kernel)
/-! LoanNames$Times -/
set_option maxRecDepth 100000
def RX15 : String := "LoanNames$Times"
def TX15 : u_T := fun k => match k with
  | 0 => ("LoanNames$Times", "n", "I", true)
  | _ => ("LoanNames$Times", "all", "LLoanNames$All;", true)
def tyX15 : Nat → FieldType := fun k => match k with
  | 0 => .int
  | _ => .object "LoanNames$All"
abbrev wsX150 : List Cond := u_ws RX15 TX15 2
theorem nmX15 : ∀ a, a < 2 → ∀ b, b < 2 → a ≠ b → (TX15 a).2.1 ≠ (TX15 b).2.1 := by decide +kernel
theorem tyX15_ok : ∀ k, k < 2 → parseFieldDescriptor (TX15 k).2.2.1 = some (tyX15 k) := by decide +kernel
abbrev cX15_init : ByteArray := prog_22_method_1_code
def yX15_init : MethodName := ⟨RX15, "<init>", "(ILLoanNames$All;)V"⟩
def dkwX15_init_0 : List UInt8 := [42, 183, 0, 1, 42, 27, 181, 0, 7, 42, 44, 181, 0, 13, 177]
abbrev dktX15_init_0 : List UInt8 := dkwX15_init_0 ++ []
theorem dksX15_init_0 : cX15_init.data.toList.drop 0 = dktX15_init_0 := by decide +kernel
theorem dX15_init_0 : decode cX15_init 0 = .ok (.aload_n 0, 1) := dk_42 (dk_at dksX15_init_0 0 rfl rfl)
theorem dX15_init_1 : decode cX15_init 1 = .ok (.invokespecial 1, 3) := dk_183 0 1 (dk_at dksX15_init_0 1 rfl rfl)
theorem dX15_init_4 : decode cX15_init 4 = .ok (.aload_n 0, 1) := dk_42 (dk_at dksX15_init_0 4 rfl rfl)
theorem dX15_init_5 : decode cX15_init 5 = .ok (.iload_n 1, 1) := dk_27 (dk_at dksX15_init_0 5 rfl rfl)
theorem dX15_init_6 : decode cX15_init 6 = .ok (.putfield 7, 3) := dk_181 0 7 (dk_at dksX15_init_0 6 rfl rfl)
theorem dX15_init_9 : decode cX15_init 9 = .ok (.aload_n 0, 1) := dk_42 (dk_at dksX15_init_0 9 rfl rfl)
theorem dX15_init_10 : decode cX15_init 10 = .ok (.aload_n 2, 1) := dk_44 (dk_at dksX15_init_0 10 rfl rfl)
theorem dX15_init_11 : decode cX15_init 11 = .ok (.putfield 13, 3) := dk_181 0 13 (dk_at dksX15_init_0 11 rfl rfl)
theorem dX15_init_14 : decode cX15_init 14 = .ok (.return_, 1) := dk_177 (dk_at dksX15_init_0 14 rfl rfl)
abbrev cX15_leaves : ByteArray := prog_22_method_3_code
def yX15_leaves : MethodName := ⟨RX15, "leaves", "(LLoanNames$LeafRow;I)V"⟩
def dkwX15_leaves_0 : List UInt8 := [42, 180, 0, 13, 43, 28, 182, 0, 23, 177]
abbrev dktX15_leaves_0 : List UInt8 := dkwX15_leaves_0 ++ []
theorem dksX15_leaves_0 : cX15_leaves.data.toList.drop 0 = dktX15_leaves_0 := by decide +kernel
theorem dX15_leaves_0 : decode cX15_leaves 0 = .ok (.aload_n 0, 1) := dk_42 (dk_at dksX15_leaves_0 0 rfl rfl)
theorem dX15_leaves_1 : decode cX15_leaves 1 = .ok (.getfield 13, 3) := dk_180 0 13 (dk_at dksX15_leaves_0 1 rfl rfl)
theorem dX15_leaves_4 : decode cX15_leaves 4 = .ok (.aload_n 1, 1) := dk_43 (dk_at dksX15_leaves_0 4 rfl rfl)
theorem dX15_leaves_5 : decode cX15_leaves 5 = .ok (.iload_n 2, 1) := dk_28 (dk_at dksX15_leaves_0 5 rfl rfl)
theorem dX15_leaves_6 : decode cX15_leaves 6 = .ok (.invokevirtual 23, 3) := dk_182 0 23 (dk_at dksX15_leaves_0 6 rfl rfl)
theorem dX15_leaves_9 : decode cX15_leaves 9 = .ok (.return_, 1) := dk_177 (dk_at dksX15_leaves_0 9 rfl rfl)
abbrev cX15_isLike : ByteArray := prog_22_method_5_code
def yX15_isLike : MethodName := ⟨RX15, "isLike", "(LLoanNames$Part;)Z"⟩
def dkwX15_isLike_1 : List UInt8 := [192, 0, 8, 180, 0, 13, 42, 180, 0, 13, 182, 0, 31, 153, 0, 7, 4, 167, 0, 4, 3, 172]
abbrev dktX15_isLike_1 : List UInt8 := dkwX15_isLike_1 ++ []
def dkwX15_isLike_0 : List UInt8 := [43, 193, 0, 8, 153, 0, 38, 43, 192, 0, 8, 180, 0, 7, 42, 180, 0, 7, 160, 0, 24, 43]
abbrev dktX15_isLike_0 : List UInt8 := dkwX15_isLike_0 ++ dktX15_isLike_1
theorem dksX15_isLike_0 : cX15_isLike.data.toList.drop 0 = dktX15_isLike_0 := by decide +kernel
theorem dksX15_isLike_1 : cX15_isLike.data.toList.drop 22 = dktX15_isLike_1 := dk_seg dksX15_isLike_0 22 rfl rfl
theorem dX15_isLike_0 : decode cX15_isLike 0 = .ok (.aload_n 1, 1) := dk_43 (dk_at dksX15_isLike_0 0 rfl rfl)
theorem dX15_isLike_1 : decode cX15_isLike 1 = .ok (.instanceof 8, 3) := dk_193 0 8 (dk_at dksX15_isLike_0 1 rfl rfl)
theorem dX15_isLike_4 : decode cX15_isLike 4 = .ok (.ifCond .eq 38, 3) := dk_153 0 38 (dk_at dksX15_isLike_0 4 rfl rfl)
theorem dX15_isLike_7 : decode cX15_isLike 7 = .ok (.aload_n 1, 1) := dk_43 (dk_at dksX15_isLike_0 7 rfl rfl)
theorem dX15_isLike_8 : decode cX15_isLike 8 = .ok (.checkcast 8, 3) := dk_192 0 8 (dk_at dksX15_isLike_0 8 rfl rfl)
theorem dX15_isLike_11 : decode cX15_isLike 11 = .ok (.getfield 7, 3) := dk_180 0 7 (dk_at dksX15_isLike_0 11 rfl rfl)
theorem dX15_isLike_14 : decode cX15_isLike 14 = .ok (.aload_n 0, 1) := dk_42 (dk_at dksX15_isLike_0 14 rfl rfl)
theorem dX15_isLike_15 : decode cX15_isLike 15 = .ok (.getfield 7, 3) := dk_180 0 7 (dk_at dksX15_isLike_0 15 rfl rfl)
theorem dX15_isLike_18 : decode cX15_isLike 18 = .ok (.if_icmp .ne 24, 3) := dk_160 0 24 (dk_at dksX15_isLike_0 18 rfl rfl)
theorem dX15_isLike_21 : decode cX15_isLike 21 = .ok (.aload_n 1, 1) := dk_43 (dk_at dksX15_isLike_0 21 rfl rfl)
theorem dX15_isLike_22 : decode cX15_isLike 22 = .ok (.checkcast 8, 3) := dk_192 0 8 (dk_at dksX15_isLike_1 0 rfl rfl)
theorem dX15_isLike_25 : decode cX15_isLike 25 = .ok (.getfield 13, 3) := dk_180 0 13 (dk_at dksX15_isLike_1 3 rfl rfl)
theorem dX15_isLike_28 : decode cX15_isLike 28 = .ok (.aload_n 0, 1) := dk_42 (dk_at dksX15_isLike_1 6 rfl rfl)
theorem dX15_isLike_29 : decode cX15_isLike 29 = .ok (.getfield 13, 3) := dk_180 0 13 (dk_at dksX15_isLike_1 7 rfl rfl)
theorem dX15_isLike_32 : decode cX15_isLike 32 = .ok (.invokevirtual 31, 3) := dk_182 0 31 (dk_at dksX15_isLike_1 10 rfl rfl)
theorem dX15_isLike_35 : decode cX15_isLike 35 = .ok (.ifCond .eq 7, 3) := dk_153 0 7 (dk_at dksX15_isLike_1 13 rfl rfl)
theorem dX15_isLike_38 : decode cX15_isLike 38 = .ok (.iconst 1, 1) := dk_4 (dk_at dksX15_isLike_1 16 rfl rfl)
theorem dX15_isLike_39 : decode cX15_isLike 39 = .ok (.goto 4, 3) := dk_167 0 4 (dk_at dksX15_isLike_1 17 rfl rfl)
theorem dX15_isLike_42 : decode cX15_isLike 42 = .ok (.iconst 0, 1) := dk_3 (dk_at dksX15_isLike_1 20 rfl rfl)
theorem dX15_isLike_43 : decode cX15_isLike 43 = .ok (.ireturn, 1) := dk_172 (dk_at dksX15_isLike_1 21 rfl rfl)
abbrev cX15_hasChoice : ByteArray := prog_22_method_4_code
def yX15_hasChoice : MethodName := ⟨RX15, "hasChoice", "()Z"⟩
def dkwX15_hasChoice_0 : List UInt8 := [42, 180, 0, 13, 182, 0, 27, 172]
abbrev dktX15_hasChoice_0 : List UInt8 := dkwX15_hasChoice_0 ++ []
theorem dksX15_hasChoice_0 : cX15_hasChoice.data.toList.drop 0 = dktX15_hasChoice_0 := by decide +kernel
theorem dX15_hasChoice_0 : decode cX15_hasChoice 0 = .ok (.aload_n 0, 1) := dk_42 (dk_at dksX15_hasChoice_0 0 rfl rfl)
theorem dX15_hasChoice_1 : decode cX15_hasChoice 1 = .ok (.getfield 13, 3) := dk_180 0 13 (dk_at dksX15_hasChoice_0 1 rfl rfl)
theorem dX15_hasChoice_4 : decode cX15_hasChoice 4 = .ok (.invokevirtual 27, 3) := dk_182 0 27 (dk_at dksX15_hasChoice_0 4 rfl rfl)
theorem dX15_hasChoice_7 : decode cX15_hasChoice 7 = .ok (.ireturn, 1) := dk_172 (dk_at dksX15_hasChoice_0 7 rfl rfl)
abbrev cX15_plain : ByteArray := prog_22_method_6_code
def yX15_plain : MethodName := ⟨RX15, "plain", "(LLoanNames$Plain;)LLoanNames$All;"⟩
def dkwX15_plain_2 : List UInt8 := [181, 0, 49, 42, 180, 0, 7, 154, 0, 13, 187, 0, 18, 89, 183, 0, 54, 167, 0, 4, 44, 176]
abbrev dktX15_plain_2 : List UInt8 := dkwX15_plain_2 ++ []
def dkwX15_plain_1 : List UInt8 := [187, 0, 8, 89, 42, 180, 0, 7, 44, 183, 0, 42, 182, 0, 45, 176, 43, 89, 180, 0, 49, 4, 96]
abbrev dktX15_plain_1 : List UInt8 := dkwX15_plain_1 ++ dktX15_plain_2
def dkwX15_plain_0 : List UInt8 := [42, 180, 0, 13, 43, 182, 0, 35, 77, 44, 180, 0, 39, 158, 0, 27, 42, 180, 0, 7, 4, 164, 0, 19]
abbrev dktX15_plain_0 : List UInt8 := dkwX15_plain_0 ++ dktX15_plain_1
theorem dksX15_plain_0 : cX15_plain.data.toList.drop 0 = dktX15_plain_0 := by decide +kernel
theorem dksX15_plain_1 : cX15_plain.data.toList.drop 24 = dktX15_plain_1 := dk_seg dksX15_plain_0 24 rfl rfl
theorem dksX15_plain_2 : cX15_plain.data.toList.drop 47 = dktX15_plain_2 := dk_seg dksX15_plain_1 23 rfl rfl
theorem dX15_plain_0 : decode cX15_plain 0 = .ok (.aload_n 0, 1) := dk_42 (dk_at dksX15_plain_0 0 rfl rfl)
theorem dX15_plain_1 : decode cX15_plain 1 = .ok (.getfield 13, 3) := dk_180 0 13 (dk_at dksX15_plain_0 1 rfl rfl)
theorem dX15_plain_4 : decode cX15_plain 4 = .ok (.aload_n 1, 1) := dk_43 (dk_at dksX15_plain_0 4 rfl rfl)
theorem dX15_plain_5 : decode cX15_plain 5 = .ok (.invokevirtual 35, 3) := dk_182 0 35 (dk_at dksX15_plain_0 5 rfl rfl)
theorem dX15_plain_8 : decode cX15_plain 8 = .ok (.astore_n 2, 1) := dk_77 (dk_at dksX15_plain_0 8 rfl rfl)
theorem dX15_plain_9 : decode cX15_plain 9 = .ok (.aload_n 2, 1) := dk_44 (dk_at dksX15_plain_0 9 rfl rfl)
theorem dX15_plain_10 : decode cX15_plain 10 = .ok (.getfield 39, 3) := dk_180 0 39 (dk_at dksX15_plain_0 10 rfl rfl)
theorem dX15_plain_13 : decode cX15_plain 13 = .ok (.ifCond .le 27, 3) := dk_158 0 27 (dk_at dksX15_plain_0 13 rfl rfl)
theorem dX15_plain_16 : decode cX15_plain 16 = .ok (.aload_n 0, 1) := dk_42 (dk_at dksX15_plain_0 16 rfl rfl)
theorem dX15_plain_17 : decode cX15_plain 17 = .ok (.getfield 7, 3) := dk_180 0 7 (dk_at dksX15_plain_0 17 rfl rfl)
theorem dX15_plain_20 : decode cX15_plain 20 = .ok (.iconst 1, 1) := dk_4 (dk_at dksX15_plain_0 20 rfl rfl)
theorem dX15_plain_21 : decode cX15_plain 21 = .ok (.if_icmp .le 19, 3) := dk_164 0 19 (dk_at dksX15_plain_0 21 rfl rfl)
theorem dX15_plain_24 : decode cX15_plain 24 = .ok (.new 8, 3) := dk_187 0 8 (dk_at dksX15_plain_1 0 rfl rfl)
theorem dX15_plain_27 : decode cX15_plain 27 = .ok (.dup, 1) := dk_89 (dk_at dksX15_plain_1 3 rfl rfl)
theorem dX15_plain_28 : decode cX15_plain 28 = .ok (.aload_n 0, 1) := dk_42 (dk_at dksX15_plain_1 4 rfl rfl)
theorem dX15_plain_29 : decode cX15_plain 29 = .ok (.getfield 7, 3) := dk_180 0 7 (dk_at dksX15_plain_1 5 rfl rfl)
theorem dX15_plain_32 : decode cX15_plain 32 = .ok (.aload_n 2, 1) := dk_44 (dk_at dksX15_plain_1 8 rfl rfl)
theorem dX15_plain_33 : decode cX15_plain 33 = .ok (.invokespecial 42, 3) := dk_183 0 42 (dk_at dksX15_plain_1 9 rfl rfl)
theorem dX15_plain_36 : decode cX15_plain 36 = .ok (.invokevirtual 45, 3) := dk_182 0 45 (dk_at dksX15_plain_1 12 rfl rfl)
theorem dX15_plain_39 : decode cX15_plain 39 = .ok (.areturn, 1) := dk_176 (dk_at dksX15_plain_1 15 rfl rfl)
theorem dX15_plain_40 : decode cX15_plain 40 = .ok (.aload_n 1, 1) := dk_43 (dk_at dksX15_plain_1 16 rfl rfl)
theorem dX15_plain_41 : decode cX15_plain 41 = .ok (.dup, 1) := dk_89 (dk_at dksX15_plain_1 17 rfl rfl)
theorem dX15_plain_42 : decode cX15_plain 42 = .ok (.getfield 49, 3) := dk_180 0 49 (dk_at dksX15_plain_1 18 rfl rfl)
theorem dX15_plain_45 : decode cX15_plain 45 = .ok (.iconst 1, 1) := dk_4 (dk_at dksX15_plain_1 21 rfl rfl)
theorem dX15_plain_46 : decode cX15_plain 46 = .ok (.iadd, 1) := dk_96 (dk_at dksX15_plain_1 22 rfl rfl)
theorem dX15_plain_47 : decode cX15_plain 47 = .ok (.putfield 49, 3) := dk_181 0 49 (dk_at dksX15_plain_2 0 rfl rfl)
theorem dX15_plain_50 : decode cX15_plain 50 = .ok (.aload_n 0, 1) := dk_42 (dk_at dksX15_plain_2 3 rfl rfl)
theorem dX15_plain_51 : decode cX15_plain 51 = .ok (.getfield 7, 3) := dk_180 0 7 (dk_at dksX15_plain_2 4 rfl rfl)
theorem dX15_plain_54 : decode cX15_plain 54 = .ok (.ifCond .ne 13, 3) := dk_154 0 13 (dk_at dksX15_plain_2 7 rfl rfl)
theorem dX15_plain_57 : decode cX15_plain 57 = .ok (.new 18, 3) := dk_187 0 18 (dk_at dksX15_plain_2 10 rfl rfl)
theorem dX15_plain_60 : decode cX15_plain 60 = .ok (.dup, 1) := dk_89 (dk_at dksX15_plain_2 13 rfl rfl)
theorem dX15_plain_61 : decode cX15_plain 61 = .ok (.invokespecial 54, 3) := dk_183 0 54 (dk_at dksX15_plain_2 14 rfl rfl)
theorem dX15_plain_64 : decode cX15_plain 64 = .ok (.goto 4, 3) := dk_167 0 4 (dk_at dksX15_plain_2 17 rfl rfl)
theorem dX15_plain_67 : decode cX15_plain 67 = .ok (.aload_n 2, 1) := dk_44 (dk_at dksX15_plain_2 20 rfl rfl)
theorem dX15_plain_68 : decode cX15_plain 68 = .ok (.areturn, 1) := dk_176 (dk_at dksX15_plain_2 21 rfl rfl)
abbrev cX15_passes : ByteArray := prog_22_method_2_code
def yX15_passes : MethodName := ⟨RX15, "passes", "(LLoanNames$Sink;IJI)V"⟩
def dkwX15_passes_1 : List UInt8 := [182, 0, 17, 177]
abbrev dktX15_passes_1 : List UInt8 := dkwX15_passes_1 ++ []
def dkwX15_passes_0 : List UInt8 := [42, 180, 0, 7, 158, 0, 21, 42, 180, 0, 13, 43, 28, 33, 42, 180, 0, 7, 133, 105, 21, 5]
abbrev dktX15_passes_0 : List UInt8 := dkwX15_passes_0 ++ dktX15_passes_1
theorem dksX15_passes_0 : cX15_passes.data.toList.drop 0 = dktX15_passes_0 := by decide +kernel
theorem dksX15_passes_1 : cX15_passes.data.toList.drop 22 = dktX15_passes_1 := dk_seg dksX15_passes_0 22 rfl rfl
theorem dX15_passes_0 : decode cX15_passes 0 = .ok (.aload_n 0, 1) := dk_42 (dk_at dksX15_passes_0 0 rfl rfl)
theorem dX15_passes_1 : decode cX15_passes 1 = .ok (.getfield 7, 3) := dk_180 0 7 (dk_at dksX15_passes_0 1 rfl rfl)
theorem dX15_passes_4 : decode cX15_passes 4 = .ok (.ifCond .le 21, 3) := dk_158 0 21 (dk_at dksX15_passes_0 4 rfl rfl)
theorem dX15_passes_7 : decode cX15_passes 7 = .ok (.aload_n 0, 1) := dk_42 (dk_at dksX15_passes_0 7 rfl rfl)
theorem dX15_passes_8 : decode cX15_passes 8 = .ok (.getfield 13, 3) := dk_180 0 13 (dk_at dksX15_passes_0 8 rfl rfl)
theorem dX15_passes_11 : decode cX15_passes 11 = .ok (.aload_n 1, 1) := dk_43 (dk_at dksX15_passes_0 11 rfl rfl)
theorem dX15_passes_12 : decode cX15_passes 12 = .ok (.iload_n 2, 1) := dk_28 (dk_at dksX15_passes_0 12 rfl rfl)
theorem dX15_passes_13 : decode cX15_passes 13 = .ok (.lload_n 3, 1) := dk_33 (dk_at dksX15_passes_0 13 rfl rfl)
theorem dX15_passes_14 : decode cX15_passes 14 = .ok (.aload_n 0, 1) := dk_42 (dk_at dksX15_passes_0 14 rfl rfl)
theorem dX15_passes_15 : decode cX15_passes 15 = .ok (.getfield 7, 3) := dk_180 0 7 (dk_at dksX15_passes_0 15 rfl rfl)
theorem dX15_passes_18 : decode cX15_passes 18 = .ok (.i2l, 1) := dk_133 (dk_at dksX15_passes_0 18 rfl rfl)
theorem dX15_passes_19 : decode cX15_passes 19 = .ok (.lmul, 1) := dk_105 (dk_at dksX15_passes_0 19 rfl rfl)
theorem dX15_passes_20 : decode cX15_passes 20 = .ok (.iload 5, 2) := dk_21 5 (dk_at dksX15_passes_0 20 rfl rfl)
theorem dX15_passes_22 : decode cX15_passes 22 = .ok (.invokevirtual 17, 3) := dk_182 0 17 (dk_at dksX15_passes_1 0 rfl rfl)
theorem dX15_passes_25 : decode cX15_passes 25 = .ok (.return_, 1) := dk_177 (dk_at dksX15_passes_1 3 rfl rfl)
theorem q106 : (Jvm.Cond.initialized "LoanNames$Times") ∈ lw_all := lw_g (lw_at lw_m1 16 rfl) rfl
theorem q427 : (Jvm.Cond.fieldLink "LoanNames$Times" (39 : Nat) "LoanNames$All" "many" "I") ∈ lw_all := lw_g (lw_at lw_m2 97 rfl) rfl
theorem q619 : (Jvm.Cond.instantiable "LoanNames$Times" (2 : Nat)) ∈ lw_all := lw_g (lw_at lw_m3 49 rfl) rfl
theorem q621 : (Jvm.Cond.instanceMethod ({ cls := "LoanNames$Times", name := "<init>", desc := "(ILLoanNames$All;)V" } : Jvm.MethodName)) ∈ lw_all := lw_g (lw_at lw_m3 51 rfl) rfl
theorem q622 : (Jvm.Cond.code ({ cls := "LoanNames$Times", name := "<init>", desc := "(ILLoanNames$All;)V" } : Jvm.MethodName) prog_22_method_1_code (3 : Nat) (Option.none : Option Jvm.ClassFile.FieldType)) ∈ lw_all := lw_g (lw_at lw_m3 52 rfl) rfl
theorem q623 : (Jvm.Cond.methodLinkNest "LoanNames$Times" (1 : Nat) ({ cls := "LoanNames$Part", name := "<init>", desc := "()V" } : Jvm.MethodName) "LoanNames") ∈ lw_tbl := lw_at lw_m3 53 rfl
theorem q624 : (Jvm.Cond.fieldLink "LoanNames$Times" (7 : Nat) "LoanNames$Times" "n" "I") ∈ lw_all := lw_g (lw_at lw_m3 54 rfl) rfl
theorem q625 : (Jvm.Cond.fieldLink "LoanNames$Times" (13 : Nat) "LoanNames$Times" "all" "LLoanNames$All;") ∈ lw_all := lw_g (lw_at lw_m3 55 rfl) rfl
theorem q626 : (Jvm.Cond.laysFinal "LoanNames$Times" "LoanNames$Times" "n" "I") ∈ lw_all := lw_g (lw_at lw_m3 56 rfl) rfl
theorem q627 : (Jvm.Cond.soleField "LoanNames$Times" "n") ∈ lw_all := lw_g (lw_at lw_m3 57 rfl) rfl
theorem q628 : (Jvm.Cond.laysFinal "LoanNames$Times" "LoanNames$Times" "all" "LLoanNames$All;") ∈ lw_all := lw_g (lw_at lw_m3 58 rfl) rfl
theorem q629 : (Jvm.Cond.soleField "LoanNames$Times" "all") ∈ lw_all := lw_g (lw_at lw_m3 59 rfl) rfl
theorem q630 : (Jvm.Cond.superclass "LoanNames$Times" "LoanNames$Part") ∈ lw_all := lw_g (lw_at lw_m3 60 rfl) rfl
theorem q725 : (Jvm.Cond.selects "LoanNames$Times" ({ cls := "LoanNames$Part", name := "leaves", desc := "(LLoanNames$LeafRow;I)V" } : Jvm.MethodName) ({ cls := "LoanNames$Times", name := "leaves", desc := "(LLoanNames$LeafRow;I)V" } : Jvm.MethodName)) ∈ lw_all := lw_g (lw_at lw_m3 155 rfl) rfl
theorem q726 : (Jvm.Cond.instanceMethod ({ cls := "LoanNames$Times", name := "leaves", desc := "(LLoanNames$LeafRow;I)V" } : Jvm.MethodName)) ∈ lw_all := lw_g (lw_at lw_m3 156 rfl) rfl
theorem q727 : (Jvm.Cond.code ({ cls := "LoanNames$Times", name := "leaves", desc := "(LLoanNames$LeafRow;I)V" } : Jvm.MethodName) prog_22_method_3_code (3 : Nat) (Option.none : Option Jvm.ClassFile.FieldType)) ∈ lw_all := lw_g (lw_at lw_m3 157 rfl) rfl
theorem q728 : (Jvm.Cond.methodLink "LoanNames$Times" (23 : Nat) ({ cls := "LoanNames$All", name := "leaves", desc := "(LLoanNames$LeafRow;I)V" } : Jvm.MethodName)) ∈ lw_all := lw_g (lw_at lw_m3 158 rfl) rfl
theorem q936 : (Jvm.Cond.fieldLink "LoanNames$Times" (49 : Nat) "LoanNames$Plain" "steps" "I") ∈ lw_all := lw_g (lw_at lw_m4 126 rfl) rfl
theorem q1007 : (Jvm.Cond.selects "LoanNames$Times" ({ cls := "LoanNames$Part", name := "isLike", desc := "(LLoanNames$Part;)Z" } : Jvm.MethodName) ({ cls := "LoanNames$Times", name := "isLike", desc := "(LLoanNames$Part;)Z" } : Jvm.MethodName)) ∈ lw_all := lw_g (lw_at lw_m4 197 rfl) rfl
theorem q1008 : (Jvm.Cond.instanceMethod ({ cls := "LoanNames$Times", name := "isLike", desc := "(LLoanNames$Part;)Z" } : Jvm.MethodName)) ∈ lw_all := lw_g (lw_at lw_m4 198 rfl) rfl
theorem q1009 : (Jvm.Cond.code ({ cls := "LoanNames$Times", name := "isLike", desc := "(LLoanNames$Part;)Z" } : Jvm.MethodName) prog_22_method_5_code (2 : Nat) (Option.some Jvm.ClassFile.FieldType.boolean)) ∈ lw_all := lw_g (lw_at lw_m4 199 rfl) rfl
theorem q1010 : (Jvm.Cond.classLink "LoanNames$Times" (8 : Nat) "LoanNames$Times") ∈ lw_all := lw_g (lw_at lw_m4 200 rfl) rfl
theorem q1011 : (Jvm.Cond.methodLink "LoanNames$Times" (31 : Nat) ({ cls := "LoanNames$All", name := "isLike", desc := "(LLoanNames$All;)Z" } : Jvm.MethodName)) ∈ lw_all := lw_g (lw_at lw_m4 201 rfl) rfl
theorem q1034 : (Jvm.Cond.selects "LoanNames$Times" ({ cls := "LoanNames$Part", name := "hasChoice", desc := "()Z" } : Jvm.MethodName) ({ cls := "LoanNames$Times", name := "hasChoice", desc := "()Z" } : Jvm.MethodName)) ∈ lw_all := lw_g (lw_at lw_m4 224 rfl) rfl
theorem q1035 : (Jvm.Cond.instanceMethod ({ cls := "LoanNames$Times", name := "hasChoice", desc := "()Z" } : Jvm.MethodName)) ∈ lw_all := lw_g (lw_at lw_m4 225 rfl) rfl
theorem q1036 : (Jvm.Cond.code ({ cls := "LoanNames$Times", name := "hasChoice", desc := "()Z" } : Jvm.MethodName) prog_22_method_4_code (1 : Nat) (Option.some Jvm.ClassFile.FieldType.boolean)) ∈ lw_all := lw_g (lw_at lw_m4 226 rfl) rfl
theorem q1037 : (Jvm.Cond.methodLink "LoanNames$Times" (27 : Nat) ({ cls := "LoanNames$All", name := "hasChoice", desc := "()Z" } : Jvm.MethodName)) ∈ lw_all := lw_g (lw_at lw_m4 227 rfl) rfl
theorem q1064 : (Jvm.Cond.selects "LoanNames$Times" ({ cls := "LoanNames$Part", name := "plain", desc := "(LLoanNames$Plain;)LLoanNames$All;" } : Jvm.MethodName) ({ cls := "LoanNames$Times", name := "plain", desc := "(LLoanNames$Plain;)LLoanNames$All;" } : Jvm.MethodName)) ∈ lw_all := lw_g (lw_at lw_m5 14 rfl) rfl
theorem q1065 : (Jvm.Cond.instanceMethod ({ cls := "LoanNames$Times", name := "plain", desc := "(LLoanNames$Plain;)LLoanNames$All;" } : Jvm.MethodName)) ∈ lw_all := lw_g (lw_at lw_m5 15 rfl) rfl
theorem q1066 : (Jvm.Cond.code ({ cls := "LoanNames$Times", name := "plain", desc := "(LLoanNames$Plain;)LLoanNames$All;" } : Jvm.MethodName) prog_22_method_6_code (3 : Nat) (Option.some (Jvm.ClassFile.FieldType.object "LoanNames$All"))) ∈ lw_all := lw_g (lw_at lw_m5 16 rfl) rfl
theorem q1067 : (Jvm.Cond.methodLink "LoanNames$Times" (35 : Nat) ({ cls := "LoanNames$All", name := "plain", desc := "(LLoanNames$Plain;)LLoanNames$All;" } : Jvm.MethodName)) ∈ lw_all := lw_g (lw_at lw_m5 17 rfl) rfl
theorem q1068 : (Jvm.Cond.methodLink "LoanNames$Times" (42 : Nat) ({ cls := "LoanNames$Times", name := "<init>", desc := "(ILLoanNames$All;)V" } : Jvm.MethodName)) ∈ lw_all := lw_g (lw_at lw_m5 18 rfl) rfl
theorem q1069 : (Jvm.Cond.methodLink "LoanNames$Times" (45 : Nat) ({ cls := "LoanNames$Times", name := "alone", desc := "()LLoanNames$All;" } : Jvm.MethodName)) ∈ lw_all := lw_g (lw_at lw_m5 19 rfl) rfl
theorem q1070 : (Jvm.Cond.sameMethod "LoanNames$Times" "LoanNames$Part" "alone" "()LLoanNames$All;") ∈ lw_all := lw_g (lw_at lw_m5 20 rfl) rfl
theorem q1071 : (Jvm.Cond.selects "LoanNames$Times" ({ cls := "LoanNames$Times", name := "alone", desc := "()LLoanNames$All;" } : Jvm.MethodName) ({ cls := "LoanNames$Part", name := "alone", desc := "()LLoanNames$All;" } : Jvm.MethodName)) ∈ lw_all := lw_g (lw_at lw_m5 21 rfl) rfl
theorem q1072 : (Jvm.Cond.classLink "LoanNames$Times" (18 : Nat) "LoanNames$All") ∈ lw_all := lw_g (lw_at lw_m5 22 rfl) rfl
theorem q1073 : (Jvm.Cond.methodLinkNest "LoanNames$Times" (54 : Nat) ({ cls := "LoanNames$All", name := "<init>", desc := "()V" } : Jvm.MethodName) "LoanNames") ∈ lw_tbl := lw_at lw_m5 23 rfl
theorem q1136 : (Jvm.Cond.selects "LoanNames$Times" ({ cls := "LoanNames$Part", name := "passes", desc := "(LLoanNames$Sink;IJI)V" } : Jvm.MethodName) ({ cls := "LoanNames$Times", name := "passes", desc := "(LLoanNames$Sink;IJI)V" } : Jvm.MethodName)) ∈ lw_all := lw_g (lw_at lw_m5 86 rfl) rfl
theorem q1137 : (Jvm.Cond.instanceMethod ({ cls := "LoanNames$Times", name := "passes", desc := "(LLoanNames$Sink;IJI)V" } : Jvm.MethodName)) ∈ lw_all := lw_g (lw_at lw_m5 87 rfl) rfl
theorem q1138 : (Jvm.Cond.code ({ cls := "LoanNames$Times", name := "passes", desc := "(LLoanNames$Sink;IJI)V" } : Jvm.MethodName) prog_22_method_2_code (6 : Nat) (Option.none : Option Jvm.ClassFile.FieldType)) ∈ lw_all := lw_g (lw_at lw_m5 88 rfl) rfl
theorem q1139 : (Jvm.Cond.methodLink "LoanNames$Times" (17 : Nat) ({ cls := "LoanNames$All", name := "passes", desc := "(LLoanNames$Sink;IJI)V" } : Jvm.MethodName)) ∈ lw_all := lw_g (lw_at lw_m5 89 rfl) rfl
theorem q2158 : (Jvm.Cond.castable "LoanNames$Times" "LoanNames$Part") ∈ lw_tbl := lw_at lw_m9 148 rfl
theorem in_X15 : ∀ w ∈ wsX150, w ∈ lw_all := lw_in wsX150 [626, 628] (by decide +kernel) (by decide +kernel)
/-! LoanNames$Fork -/
set_option maxRecDepth 100000
def RX16 : String := "LoanNames$Fork"
abbrev cX16_init : ByteArray := prog_8_method_1_code
def yX16_init : MethodName := ⟨RX16, "<init>", "(LLoanNames$All;LLoanNames$All;)V"⟩
def dkwX16_init_0 : List UInt8 := [42, 183, 0, 1, 42, 43, 181, 0, 7, 42, 44, 181, 0, 13, 177]
abbrev dktX16_init_0 : List UInt8 := dkwX16_init_0 ++ []
theorem dksX16_init_0 : cX16_init.data.toList.drop 0 = dktX16_init_0 := by decide +kernel
theorem dX16_init_0 : decode cX16_init 0 = .ok (.aload_n 0, 1) := dk_42 (dk_at dksX16_init_0 0 rfl rfl)
theorem dX16_init_1 : decode cX16_init 1 = .ok (.invokespecial 1, 3) := dk_183 0 1 (dk_at dksX16_init_0 1 rfl rfl)
theorem dX16_init_4 : decode cX16_init 4 = .ok (.aload_n 0, 1) := dk_42 (dk_at dksX16_init_0 4 rfl rfl)
theorem dX16_init_5 : decode cX16_init 5 = .ok (.aload_n 1, 1) := dk_43 (dk_at dksX16_init_0 5 rfl rfl)
theorem dX16_init_6 : decode cX16_init 6 = .ok (.putfield 7, 3) := dk_181 0 7 (dk_at dksX16_init_0 6 rfl rfl)
theorem dX16_init_9 : decode cX16_init 9 = .ok (.aload_n 0, 1) := dk_42 (dk_at dksX16_init_0 9 rfl rfl)
theorem dX16_init_10 : decode cX16_init 10 = .ok (.aload_n 2, 1) := dk_44 (dk_at dksX16_init_0 10 rfl rfl)
theorem dX16_init_11 : decode cX16_init 11 = .ok (.putfield 13, 3) := dk_181 0 13 (dk_at dksX16_init_0 11 rfl rfl)
theorem dX16_init_14 : decode cX16_init 14 = .ok (.return_, 1) := dk_177 (dk_at dksX16_init_0 14 rfl rfl)
abbrev cX16_leaves : ByteArray := prog_8_method_6_code
def yX16_leaves : MethodName := ⟨RX16, "leaves", "(LLoanNames$LeafRow;I)V"⟩
def dkwX16_leaves_0 : List UInt8 := [42, 180, 0, 7, 43, 28, 182, 0, 26, 42, 180, 0, 13, 43, 28, 182, 0, 26, 177]
abbrev dktX16_leaves_0 : List UInt8 := dkwX16_leaves_0 ++ []
theorem dksX16_leaves_0 : cX16_leaves.data.toList.drop 0 = dktX16_leaves_0 := by decide +kernel
theorem dX16_leaves_0 : decode cX16_leaves 0 = .ok (.aload_n 0, 1) := dk_42 (dk_at dksX16_leaves_0 0 rfl rfl)
theorem dX16_leaves_1 : decode cX16_leaves 1 = .ok (.getfield 7, 3) := dk_180 0 7 (dk_at dksX16_leaves_0 1 rfl rfl)
theorem dX16_leaves_4 : decode cX16_leaves 4 = .ok (.aload_n 1, 1) := dk_43 (dk_at dksX16_leaves_0 4 rfl rfl)
theorem dX16_leaves_5 : decode cX16_leaves 5 = .ok (.iload_n 2, 1) := dk_28 (dk_at dksX16_leaves_0 5 rfl rfl)
theorem dX16_leaves_6 : decode cX16_leaves 6 = .ok (.invokevirtual 26, 3) := dk_182 0 26 (dk_at dksX16_leaves_0 6 rfl rfl)
theorem dX16_leaves_9 : decode cX16_leaves 9 = .ok (.aload_n 0, 1) := dk_42 (dk_at dksX16_leaves_0 9 rfl rfl)
theorem dX16_leaves_10 : decode cX16_leaves 10 = .ok (.getfield 13, 3) := dk_180 0 13 (dk_at dksX16_leaves_0 10 rfl rfl)
theorem dX16_leaves_13 : decode cX16_leaves 13 = .ok (.aload_n 1, 1) := dk_43 (dk_at dksX16_leaves_0 13 rfl rfl)
theorem dX16_leaves_14 : decode cX16_leaves 14 = .ok (.iload_n 2, 1) := dk_28 (dk_at dksX16_leaves_0 14 rfl rfl)
theorem dX16_leaves_15 : decode cX16_leaves 15 = .ok (.invokevirtual 26, 3) := dk_182 0 26 (dk_at dksX16_leaves_0 15 rfl rfl)
theorem dX16_leaves_18 : decode cX16_leaves 18 = .ok (.return_, 1) := dk_177 (dk_at dksX16_leaves_0 18 rfl rfl)
abbrev cX16_plain : ByteArray := prog_8_method_9_code
def yX16_plain : MethodName := ⟨RX16, "plain", "(LLoanNames$Plain;)LLoanNames$All;"⟩
def dkwX16_plain_3 : List UInt8 := [182, 0, 56, 176]
abbrev dktX16_plain_3 : List UInt8 := dkwX16_plain_3 ++ []
def dkwX16_plain_2 : List UInt8 := [180, 0, 46, 4, 96, 181, 0, 46, 21, 4, 153, 0, 7, 44, 167, 0, 12, 42, 44, 45, 182, 0, 52]
abbrev dktX16_plain_2 : List UInt8 := dkwX16_plain_2 ++ dktX16_plain_3
def dkwX16_plain_1 : List UInt8 := [153, 0, 14, 44, 182, 0, 30, 154, 0, 7, 4, 167, 0, 4, 3, 54, 4, 21, 4, 153, 0, 13, 43, 89]
abbrev dktX16_plain_1 : List UInt8 := dkwX16_plain_1 ++ dktX16_plain_2
def dkwX16_plain_0 : List UInt8 := [42, 180, 0, 7, 43, 182, 0, 42, 77, 42, 180, 0, 13, 43, 182, 0, 42, 78, 44, 45, 182, 0, 38]
abbrev dktX16_plain_0 : List UInt8 := dkwX16_plain_0 ++ dktX16_plain_1
theorem dksX16_plain_0 : cX16_plain.data.toList.drop 0 = dktX16_plain_0 := by decide +kernel
theorem dksX16_plain_1 : cX16_plain.data.toList.drop 23 = dktX16_plain_1 := dk_seg dksX16_plain_0 23 rfl rfl
theorem dksX16_plain_2 : cX16_plain.data.toList.drop 47 = dktX16_plain_2 := dk_seg dksX16_plain_1 24 rfl rfl
theorem dksX16_plain_3 : cX16_plain.data.toList.drop 70 = dktX16_plain_3 := dk_seg dksX16_plain_2 23 rfl rfl
theorem dX16_plain_0 : decode cX16_plain 0 = .ok (.aload_n 0, 1) := dk_42 (dk_at dksX16_plain_0 0 rfl rfl)
theorem dX16_plain_1 : decode cX16_plain 1 = .ok (.getfield 7, 3) := dk_180 0 7 (dk_at dksX16_plain_0 1 rfl rfl)
theorem dX16_plain_4 : decode cX16_plain 4 = .ok (.aload_n 1, 1) := dk_43 (dk_at dksX16_plain_0 4 rfl rfl)
theorem dX16_plain_5 : decode cX16_plain 5 = .ok (.invokevirtual 42, 3) := dk_182 0 42 (dk_at dksX16_plain_0 5 rfl rfl)
theorem dX16_plain_8 : decode cX16_plain 8 = .ok (.astore_n 2, 1) := dk_77 (dk_at dksX16_plain_0 8 rfl rfl)
theorem dX16_plain_9 : decode cX16_plain 9 = .ok (.aload_n 0, 1) := dk_42 (dk_at dksX16_plain_0 9 rfl rfl)
theorem dX16_plain_10 : decode cX16_plain 10 = .ok (.getfield 13, 3) := dk_180 0 13 (dk_at dksX16_plain_0 10 rfl rfl)
theorem dX16_plain_13 : decode cX16_plain 13 = .ok (.aload_n 1, 1) := dk_43 (dk_at dksX16_plain_0 13 rfl rfl)
theorem dX16_plain_14 : decode cX16_plain 14 = .ok (.invokevirtual 42, 3) := dk_182 0 42 (dk_at dksX16_plain_0 14 rfl rfl)
theorem dX16_plain_17 : decode cX16_plain 17 = .ok (.astore_n 3, 1) := dk_78 (dk_at dksX16_plain_0 17 rfl rfl)
theorem dX16_plain_18 : decode cX16_plain 18 = .ok (.aload_n 2, 1) := dk_44 (dk_at dksX16_plain_0 18 rfl rfl)
theorem dX16_plain_19 : decode cX16_plain 19 = .ok (.aload_n 3, 1) := dk_45 (dk_at dksX16_plain_0 19 rfl rfl)
theorem dX16_plain_20 : decode cX16_plain 20 = .ok (.invokevirtual 38, 3) := dk_182 0 38 (dk_at dksX16_plain_0 20 rfl rfl)
theorem dX16_plain_23 : decode cX16_plain 23 = .ok (.ifCond .eq 14, 3) := dk_153 0 14 (dk_at dksX16_plain_1 0 rfl rfl)
theorem dX16_plain_26 : decode cX16_plain 26 = .ok (.aload_n 2, 1) := dk_44 (dk_at dksX16_plain_1 3 rfl rfl)
theorem dX16_plain_27 : decode cX16_plain 27 = .ok (.invokevirtual 30, 3) := dk_182 0 30 (dk_at dksX16_plain_1 4 rfl rfl)
theorem dX16_plain_30 : decode cX16_plain 30 = .ok (.ifCond .ne 7, 3) := dk_154 0 7 (dk_at dksX16_plain_1 7 rfl rfl)
theorem dX16_plain_33 : decode cX16_plain 33 = .ok (.iconst 1, 1) := dk_4 (dk_at dksX16_plain_1 10 rfl rfl)
theorem dX16_plain_34 : decode cX16_plain 34 = .ok (.goto 4, 3) := dk_167 0 4 (dk_at dksX16_plain_1 11 rfl rfl)
theorem dX16_plain_37 : decode cX16_plain 37 = .ok (.iconst 0, 1) := dk_3 (dk_at dksX16_plain_1 14 rfl rfl)
theorem dX16_plain_38 : decode cX16_plain 38 = .ok (.istore 4, 2) := dk_54 4 (dk_at dksX16_plain_1 15 rfl rfl)
theorem dX16_plain_40 : decode cX16_plain 40 = .ok (.iload 4, 2) := dk_21 4 (dk_at dksX16_plain_1 17 rfl rfl)
theorem dX16_plain_42 : decode cX16_plain 42 = .ok (.ifCond .eq 13, 3) := dk_153 0 13 (dk_at dksX16_plain_1 19 rfl rfl)
theorem dX16_plain_45 : decode cX16_plain 45 = .ok (.aload_n 1, 1) := dk_43 (dk_at dksX16_plain_1 22 rfl rfl)
theorem dX16_plain_46 : decode cX16_plain 46 = .ok (.dup, 1) := dk_89 (dk_at dksX16_plain_1 23 rfl rfl)
theorem dX16_plain_47 : decode cX16_plain 47 = .ok (.getfield 46, 3) := dk_180 0 46 (dk_at dksX16_plain_2 0 rfl rfl)
theorem dX16_plain_50 : decode cX16_plain 50 = .ok (.iconst 1, 1) := dk_4 (dk_at dksX16_plain_2 3 rfl rfl)
theorem dX16_plain_51 : decode cX16_plain 51 = .ok (.iadd, 1) := dk_96 (dk_at dksX16_plain_2 4 rfl rfl)
theorem dX16_plain_52 : decode cX16_plain 52 = .ok (.putfield 46, 3) := dk_181 0 46 (dk_at dksX16_plain_2 5 rfl rfl)
theorem dX16_plain_55 : decode cX16_plain 55 = .ok (.iload 4, 2) := dk_21 4 (dk_at dksX16_plain_2 8 rfl rfl)
theorem dX16_plain_57 : decode cX16_plain 57 = .ok (.ifCond .eq 7, 3) := dk_153 0 7 (dk_at dksX16_plain_2 10 rfl rfl)
theorem dX16_plain_60 : decode cX16_plain 60 = .ok (.aload_n 2, 1) := dk_44 (dk_at dksX16_plain_2 13 rfl rfl)
theorem dX16_plain_61 : decode cX16_plain 61 = .ok (.goto 12, 3) := dk_167 0 12 (dk_at dksX16_plain_2 14 rfl rfl)
theorem dX16_plain_64 : decode cX16_plain 64 = .ok (.aload_n 0, 1) := dk_42 (dk_at dksX16_plain_2 17 rfl rfl)
theorem dX16_plain_65 : decode cX16_plain 65 = .ok (.aload_n 2, 1) := dk_44 (dk_at dksX16_plain_2 18 rfl rfl)
theorem dX16_plain_66 : decode cX16_plain 66 = .ok (.aload_n 3, 1) := dk_45 (dk_at dksX16_plain_2 19 rfl rfl)
theorem dX16_plain_67 : decode cX16_plain 67 = .ok (.invokevirtual 52, 3) := dk_182 0 52 (dk_at dksX16_plain_2 20 rfl rfl)
theorem dX16_plain_70 : decode cX16_plain 70 = .ok (.invokevirtual 56, 3) := dk_182 0 56 (dk_at dksX16_plain_3 0 rfl rfl)
theorem dX16_plain_73 : decode cX16_plain 73 = .ok (.areturn, 1) := dk_176 (dk_at dksX16_plain_3 3 rfl rfl)
abbrev cX16_isLike : ByteArray := prog_8_method_8_code
def yX16_isLike : MethodName := ⟨RX16, "isLike", "(LLoanNames$Part;)Z"⟩
def dkwX16_isLike_2 : List UInt8 := [182, 0, 38, 153, 0, 7, 4, 167, 0, 4, 3, 172]
abbrev dktX16_isLike_2 : List UInt8 := dkwX16_isLike_2 ++ []
def dkwX16_isLike_1 : List UInt8 := [180, 0, 7, 42, 180, 0, 7, 182, 0, 38, 153, 0, 24, 43, 192, 0, 8, 180, 0, 13, 42, 180, 0, 13]
abbrev dktX16_isLike_1 : List UInt8 := dkwX16_isLike_1 ++ dktX16_isLike_2
def dkwX16_isLike_0 : List UInt8 := [43, 193, 0, 8, 153, 0, 52, 42, 43, 192, 0, 8, 182, 0, 34, 153, 0, 41, 43, 192, 0, 8]
abbrev dktX16_isLike_0 : List UInt8 := dkwX16_isLike_0 ++ dktX16_isLike_1
theorem dksX16_isLike_0 : cX16_isLike.data.toList.drop 0 = dktX16_isLike_0 := by decide +kernel
theorem dksX16_isLike_1 : cX16_isLike.data.toList.drop 22 = dktX16_isLike_1 := dk_seg dksX16_isLike_0 22 rfl rfl
theorem dksX16_isLike_2 : cX16_isLike.data.toList.drop 46 = dktX16_isLike_2 := dk_seg dksX16_isLike_1 24 rfl rfl
theorem dX16_isLike_0 : decode cX16_isLike 0 = .ok (.aload_n 1, 1) := dk_43 (dk_at dksX16_isLike_0 0 rfl rfl)
theorem dX16_isLike_1 : decode cX16_isLike 1 = .ok (.instanceof 8, 3) := dk_193 0 8 (dk_at dksX16_isLike_0 1 rfl rfl)
theorem dX16_isLike_4 : decode cX16_isLike 4 = .ok (.ifCond .eq 52, 3) := dk_153 0 52 (dk_at dksX16_isLike_0 4 rfl rfl)
theorem dX16_isLike_7 : decode cX16_isLike 7 = .ok (.aload_n 0, 1) := dk_42 (dk_at dksX16_isLike_0 7 rfl rfl)
theorem dX16_isLike_8 : decode cX16_isLike 8 = .ok (.aload_n 1, 1) := dk_43 (dk_at dksX16_isLike_0 8 rfl rfl)
theorem dX16_isLike_9 : decode cX16_isLike 9 = .ok (.checkcast 8, 3) := dk_192 0 8 (dk_at dksX16_isLike_0 9 rfl rfl)
theorem dX16_isLike_12 : decode cX16_isLike 12 = .ok (.invokevirtual 34, 3) := dk_182 0 34 (dk_at dksX16_isLike_0 12 rfl rfl)
theorem dX16_isLike_15 : decode cX16_isLike 15 = .ok (.ifCond .eq 41, 3) := dk_153 0 41 (dk_at dksX16_isLike_0 15 rfl rfl)
theorem dX16_isLike_18 : decode cX16_isLike 18 = .ok (.aload_n 1, 1) := dk_43 (dk_at dksX16_isLike_0 18 rfl rfl)
theorem dX16_isLike_19 : decode cX16_isLike 19 = .ok (.checkcast 8, 3) := dk_192 0 8 (dk_at dksX16_isLike_0 19 rfl rfl)
theorem dX16_isLike_22 : decode cX16_isLike 22 = .ok (.getfield 7, 3) := dk_180 0 7 (dk_at dksX16_isLike_1 0 rfl rfl)
theorem dX16_isLike_25 : decode cX16_isLike 25 = .ok (.aload_n 0, 1) := dk_42 (dk_at dksX16_isLike_1 3 rfl rfl)
theorem dX16_isLike_26 : decode cX16_isLike 26 = .ok (.getfield 7, 3) := dk_180 0 7 (dk_at dksX16_isLike_1 4 rfl rfl)
theorem dX16_isLike_29 : decode cX16_isLike 29 = .ok (.invokevirtual 38, 3) := dk_182 0 38 (dk_at dksX16_isLike_1 7 rfl rfl)
theorem dX16_isLike_32 : decode cX16_isLike 32 = .ok (.ifCond .eq 24, 3) := dk_153 0 24 (dk_at dksX16_isLike_1 10 rfl rfl)
theorem dX16_isLike_35 : decode cX16_isLike 35 = .ok (.aload_n 1, 1) := dk_43 (dk_at dksX16_isLike_1 13 rfl rfl)
theorem dX16_isLike_36 : decode cX16_isLike 36 = .ok (.checkcast 8, 3) := dk_192 0 8 (dk_at dksX16_isLike_1 14 rfl rfl)
theorem dX16_isLike_39 : decode cX16_isLike 39 = .ok (.getfield 13, 3) := dk_180 0 13 (dk_at dksX16_isLike_1 17 rfl rfl)
theorem dX16_isLike_42 : decode cX16_isLike 42 = .ok (.aload_n 0, 1) := dk_42 (dk_at dksX16_isLike_1 20 rfl rfl)
theorem dX16_isLike_43 : decode cX16_isLike 43 = .ok (.getfield 13, 3) := dk_180 0 13 (dk_at dksX16_isLike_1 21 rfl rfl)
theorem dX16_isLike_46 : decode cX16_isLike 46 = .ok (.invokevirtual 38, 3) := dk_182 0 38 (dk_at dksX16_isLike_2 0 rfl rfl)
theorem dX16_isLike_49 : decode cX16_isLike 49 = .ok (.ifCond .eq 7, 3) := dk_153 0 7 (dk_at dksX16_isLike_2 3 rfl rfl)
theorem dX16_isLike_52 : decode cX16_isLike 52 = .ok (.iconst 1, 1) := dk_4 (dk_at dksX16_isLike_2 6 rfl rfl)
theorem dX16_isLike_53 : decode cX16_isLike 53 = .ok (.goto 4, 3) := dk_167 0 4 (dk_at dksX16_isLike_2 7 rfl rfl)
theorem dX16_isLike_56 : decode cX16_isLike 56 = .ok (.iconst 0, 1) := dk_3 (dk_at dksX16_isLike_2 10 rfl rfl)
theorem dX16_isLike_57 : decode cX16_isLike 57 = .ok (.ireturn, 1) := dk_172 (dk_at dksX16_isLike_2 11 rfl rfl)
abbrev cX16_hasChoice : ByteArray := prog_8_method_7_code
def yX16_hasChoice : MethodName := ⟨RX16, "hasChoice", "()Z"⟩
def dkwX16_hasChoice_1 : List UInt8 := [3, 172]
abbrev dktX16_hasChoice_1 : List UInt8 := dkwX16_hasChoice_1 ++ []
def dkwX16_hasChoice_0 : List UInt8 := [42, 180, 0, 7, 182, 0, 30, 154, 0, 13, 42, 180, 0, 13, 182, 0, 30, 153, 0, 7, 4, 167, 0, 4]
abbrev dktX16_hasChoice_0 : List UInt8 := dkwX16_hasChoice_0 ++ dktX16_hasChoice_1
theorem dksX16_hasChoice_0 : cX16_hasChoice.data.toList.drop 0 = dktX16_hasChoice_0 := by decide +kernel
theorem dksX16_hasChoice_1 : cX16_hasChoice.data.toList.drop 24 = dktX16_hasChoice_1 := dk_seg dksX16_hasChoice_0 24 rfl rfl
theorem dX16_hasChoice_0 : decode cX16_hasChoice 0 = .ok (.aload_n 0, 1) := dk_42 (dk_at dksX16_hasChoice_0 0 rfl rfl)
theorem dX16_hasChoice_1 : decode cX16_hasChoice 1 = .ok (.getfield 7, 3) := dk_180 0 7 (dk_at dksX16_hasChoice_0 1 rfl rfl)
theorem dX16_hasChoice_4 : decode cX16_hasChoice 4 = .ok (.invokevirtual 30, 3) := dk_182 0 30 (dk_at dksX16_hasChoice_0 4 rfl rfl)
theorem dX16_hasChoice_7 : decode cX16_hasChoice 7 = .ok (.ifCond .ne 13, 3) := dk_154 0 13 (dk_at dksX16_hasChoice_0 7 rfl rfl)
theorem dX16_hasChoice_10 : decode cX16_hasChoice 10 = .ok (.aload_n 0, 1) := dk_42 (dk_at dksX16_hasChoice_0 10 rfl rfl)
theorem dX16_hasChoice_11 : decode cX16_hasChoice 11 = .ok (.getfield 13, 3) := dk_180 0 13 (dk_at dksX16_hasChoice_0 11 rfl rfl)
theorem dX16_hasChoice_14 : decode cX16_hasChoice 14 = .ok (.invokevirtual 30, 3) := dk_182 0 30 (dk_at dksX16_hasChoice_0 14 rfl rfl)
theorem dX16_hasChoice_17 : decode cX16_hasChoice 17 = .ok (.ifCond .eq 7, 3) := dk_153 0 7 (dk_at dksX16_hasChoice_0 17 rfl rfl)
theorem dX16_hasChoice_20 : decode cX16_hasChoice 20 = .ok (.iconst 1, 1) := dk_4 (dk_at dksX16_hasChoice_0 20 rfl rfl)
theorem dX16_hasChoice_21 : decode cX16_hasChoice 21 = .ok (.goto 4, 3) := dk_167 0 4 (dk_at dksX16_hasChoice_0 21 rfl rfl)
theorem dX16_hasChoice_24 : decode cX16_hasChoice 24 = .ok (.iconst 0, 1) := dk_3 (dk_at dksX16_hasChoice_1 0 rfl rfl)
theorem dX16_hasChoice_25 : decode cX16_hasChoice 25 = .ok (.ireturn, 1) := dk_172 (dk_at dksX16_hasChoice_1 1 rfl rfl)
abbrev cX16_passes : ByteArray := prog_8_method_5_code
def yX16_passes : MethodName := ⟨RX16, "passes", "(LLoanNames$Sink;IJI)V"⟩
def dkwX16_passes_1 : List UInt8 := [21, 5, 182, 0, 20, 177]
abbrev dktX16_passes_1 : List UInt8 := dkwX16_passes_1 ++ []
def dkwX16_passes_0 : List UInt8 := [42, 21, 5, 182, 0, 16, 153, 0, 10, 42, 180, 0, 7, 167, 0, 7, 42, 180, 0, 13, 43, 28, 33]
abbrev dktX16_passes_0 : List UInt8 := dkwX16_passes_0 ++ dktX16_passes_1
theorem dksX16_passes_0 : cX16_passes.data.toList.drop 0 = dktX16_passes_0 := by decide +kernel
theorem dksX16_passes_1 : cX16_passes.data.toList.drop 23 = dktX16_passes_1 := dk_seg dksX16_passes_0 23 rfl rfl
theorem dX16_passes_0 : decode cX16_passes 0 = .ok (.aload_n 0, 1) := dk_42 (dk_at dksX16_passes_0 0 rfl rfl)
theorem dX16_passes_1 : decode cX16_passes 1 = .ok (.iload 5, 2) := dk_21 5 (dk_at dksX16_passes_0 1 rfl rfl)
theorem dX16_passes_3 : decode cX16_passes 3 = .ok (.invokevirtual 16, 3) := dk_182 0 16 (dk_at dksX16_passes_0 3 rfl rfl)
theorem dX16_passes_6 : decode cX16_passes 6 = .ok (.ifCond .eq 10, 3) := dk_153 0 10 (dk_at dksX16_passes_0 6 rfl rfl)
theorem dX16_passes_9 : decode cX16_passes 9 = .ok (.aload_n 0, 1) := dk_42 (dk_at dksX16_passes_0 9 rfl rfl)
theorem dX16_passes_10 : decode cX16_passes 10 = .ok (.getfield 7, 3) := dk_180 0 7 (dk_at dksX16_passes_0 10 rfl rfl)
theorem dX16_passes_13 : decode cX16_passes 13 = .ok (.goto 7, 3) := dk_167 0 7 (dk_at dksX16_passes_0 13 rfl rfl)
theorem dX16_passes_16 : decode cX16_passes 16 = .ok (.aload_n 0, 1) := dk_42 (dk_at dksX16_passes_0 16 rfl rfl)
theorem dX16_passes_17 : decode cX16_passes 17 = .ok (.getfield 13, 3) := dk_180 0 13 (dk_at dksX16_passes_0 17 rfl rfl)
theorem dX16_passes_20 : decode cX16_passes 20 = .ok (.aload_n 1, 1) := dk_43 (dk_at dksX16_passes_0 20 rfl rfl)
theorem dX16_passes_21 : decode cX16_passes 21 = .ok (.iload_n 2, 1) := dk_28 (dk_at dksX16_passes_0 21 rfl rfl)
theorem dX16_passes_22 : decode cX16_passes 22 = .ok (.lload_n 3, 1) := dk_33 (dk_at dksX16_passes_0 22 rfl rfl)
theorem dX16_passes_23 : decode cX16_passes 23 = .ok (.iload 5, 2) := dk_21 5 (dk_at dksX16_passes_1 0 rfl rfl)
theorem dX16_passes_25 : decode cX16_passes 25 = .ok (.invokevirtual 20, 3) := dk_182 0 20 (dk_at dksX16_passes_1 2 rfl rfl)
theorem dX16_passes_28 : decode cX16_passes 28 = .ok (.return_, 1) := dk_177 (dk_at dksX16_passes_1 5 rfl rfl)
theorem q107 : (Jvm.Cond.initialized "LoanNames$Fork") ∈ lw_all := lw_g (lw_at lw_m1 17 rfl) rfl
theorem q643 : (Jvm.Cond.instanceMethod ({ cls := "LoanNames$Fork", name := "<init>", desc := "(LLoanNames$All;LLoanNames$All;)V" } : Jvm.MethodName)) ∈ lw_all := lw_g (lw_at lw_m3 73 rfl) rfl
theorem q644 : (Jvm.Cond.code ({ cls := "LoanNames$Fork", name := "<init>", desc := "(LLoanNames$All;LLoanNames$All;)V" } : Jvm.MethodName) prog_8_method_1_code (3 : Nat) (Option.none : Option Jvm.ClassFile.FieldType)) ∈ lw_all := lw_g (lw_at lw_m3 74 rfl) rfl
theorem q645 : (Jvm.Cond.methodLinkNest "LoanNames$Fork" (1 : Nat) ({ cls := "LoanNames$Part", name := "<init>", desc := "()V" } : Jvm.MethodName) "LoanNames") ∈ lw_tbl := lw_at lw_m3 75 rfl
theorem q647 : (Jvm.Cond.fieldLink "LoanNames$Fork" (7 : Nat) "LoanNames$Fork" "first" "LLoanNames$All;") ∈ lw_all := lw_g (lw_at lw_m3 77 rfl) rfl
theorem q648 : (Jvm.Cond.fieldLink "LoanNames$Fork" (13 : Nat) "LoanNames$Fork" "second" "LLoanNames$All;") ∈ lw_all := lw_g (lw_at lw_m3 78 rfl) rfl
theorem q652 : (Jvm.Cond.soleField "LoanNames$Fork" "first") ∈ lw_all := lw_g (lw_at lw_m3 82 rfl) rfl
theorem q654 : (Jvm.Cond.soleField "LoanNames$Fork" "second") ∈ lw_all := lw_g (lw_at lw_m3 84 rfl) rfl
theorem q712 : (Jvm.Cond.instanceMethod ({ cls := "LoanNames$Fork", name := "leaves", desc := "(LLoanNames$LeafRow;I)V" } : Jvm.MethodName)) ∈ lw_all := lw_g (lw_at lw_m3 142 rfl) rfl
theorem q713 : (Jvm.Cond.code ({ cls := "LoanNames$Fork", name := "leaves", desc := "(LLoanNames$LeafRow;I)V" } : Jvm.MethodName) prog_8_method_6_code (3 : Nat) (Option.none : Option Jvm.ClassFile.FieldType)) ∈ lw_all := lw_g (lw_at lw_m3 143 rfl) rfl
theorem q714 : (Jvm.Cond.methodLink "LoanNames$Fork" (26 : Nat) ({ cls := "LoanNames$All", name := "leaves", desc := "(LLoanNames$LeafRow;I)V" } : Jvm.MethodName)) ∈ lw_all := lw_g (lw_at lw_m3 144 rfl) rfl
theorem q938 : (Jvm.Cond.fieldLink "LoanNames$Fork" (46 : Nat) "LoanNames$Plain" "steps" "I") ∈ lw_all := lw_g (lw_at lw_m4 128 rfl) rfl
theorem q968 : (Jvm.Cond.instanceMethod ({ cls := "LoanNames$Fork", name := "plain", desc := "(LLoanNames$Plain;)LLoanNames$All;" } : Jvm.MethodName)) ∈ lw_all := lw_g (lw_at lw_m4 158 rfl) rfl
theorem q969 : (Jvm.Cond.code ({ cls := "LoanNames$Fork", name := "plain", desc := "(LLoanNames$Plain;)LLoanNames$All;" } : Jvm.MethodName) prog_8_method_9_code (5 : Nat) (Option.some (Jvm.ClassFile.FieldType.object "LoanNames$All"))) ∈ lw_all := lw_g (lw_at lw_m4 159 rfl) rfl
theorem q970 : (Jvm.Cond.methodLink "LoanNames$Fork" (42 : Nat) ({ cls := "LoanNames$All", name := "plain", desc := "(LLoanNames$Plain;)LLoanNames$All;" } : Jvm.MethodName)) ∈ lw_all := lw_g (lw_at lw_m4 160 rfl) rfl
theorem q971 : (Jvm.Cond.methodLink "LoanNames$Fork" (38 : Nat) ({ cls := "LoanNames$All", name := "isLike", desc := "(LLoanNames$All;)Z" } : Jvm.MethodName)) ∈ lw_all := lw_g (lw_at lw_m4 161 rfl) rfl
theorem q983 : (Jvm.Cond.instanceMethod ({ cls := "LoanNames$Fork", name := "isLike", desc := "(LLoanNames$Part;)Z" } : Jvm.MethodName)) ∈ lw_all := lw_g (lw_at lw_m4 173 rfl) rfl
theorem q984 : (Jvm.Cond.code ({ cls := "LoanNames$Fork", name := "isLike", desc := "(LLoanNames$Part;)Z" } : Jvm.MethodName) prog_8_method_8_code (2 : Nat) (Option.some Jvm.ClassFile.FieldType.boolean)) ∈ lw_all := lw_g (lw_at lw_m4 174 rfl) rfl
theorem q985 : (Jvm.Cond.classLink "LoanNames$Fork" (8 : Nat) "LoanNames$Fork") ∈ lw_all := lw_g (lw_at lw_m4 175 rfl) rfl
theorem q986 : (Jvm.Cond.methodLink "LoanNames$Fork" (34 : Nat) ({ cls := "LoanNames$Fork", name := "isOfKind", desc := "(LLoanNames$Fork;)Z" } : Jvm.MethodName)) ∈ lw_all := lw_g (lw_at lw_m4 176 rfl) rfl
theorem q987 : (Jvm.Cond.declares ({ cls := "LoanNames$Fork", name := "isOfKind", desc := "(LLoanNames$Fork;)Z" } : Jvm.MethodName)) ∈ lw_tbl := lw_at lw_m4 177 rfl
theorem q988 : (Jvm.Cond.sameMethod "LoanNames$Fork" "LoanNames$Fork" "isOfKind" "(LLoanNames$Fork;)Z") ∈ lw_all := lw_g (lw_at lw_m4 178 rfl) rfl
theorem q1012 : (Jvm.Cond.methodLink "LoanNames$Fork" (30 : Nat) ({ cls := "LoanNames$All", name := "hasChoice", desc := "()Z" } : Jvm.MethodName)) ∈ lw_all := lw_g (lw_at lw_m4 202 rfl) rfl
theorem q1030 : (Jvm.Cond.instanceMethod ({ cls := "LoanNames$Fork", name := "hasChoice", desc := "()Z" } : Jvm.MethodName)) ∈ lw_all := lw_g (lw_at lw_m4 220 rfl) rfl
theorem q1031 : (Jvm.Cond.code ({ cls := "LoanNames$Fork", name := "hasChoice", desc := "()Z" } : Jvm.MethodName) prog_8_method_7_code (1 : Nat) (Option.some Jvm.ClassFile.FieldType.boolean)) ∈ lw_all := lw_g (lw_at lw_m4 221 rfl) rfl
theorem q1038 : (Jvm.Cond.methodLink "LoanNames$Fork" (52 : Nat) ({ cls := "LoanNames$Fork", name := "with", desc := "(LLoanNames$All;LLoanNames$All;)LLoanNames$Fork;" } : Jvm.MethodName)) ∈ lw_all := lw_g (lw_at lw_m4 228 rfl) rfl
theorem q1039 : (Jvm.Cond.declares ({ cls := "LoanNames$Fork", name := "with", desc := "(LLoanNames$All;LLoanNames$All;)LLoanNames$Fork;" } : Jvm.MethodName)) ∈ lw_tbl := lw_at lw_m4 229 rfl
theorem q1040 : (Jvm.Cond.sameMethod "LoanNames$Fork" "LoanNames$Fork" "with" "(LLoanNames$All;LLoanNames$All;)LLoanNames$Fork;") ∈ lw_all := lw_g (lw_at lw_m4 230 rfl) rfl
theorem q1049 : (Jvm.Cond.methodLink "LoanNames$Fork" (56 : Nat) ({ cls := "LoanNames$Fork", name := "alone", desc := "()LLoanNames$All;" } : Jvm.MethodName)) ∈ lw_all := lw_g (lw_at lw_m4 239 rfl) rfl
theorem q1050 : (Jvm.Cond.sameMethod "LoanNames$Fork" "LoanNames$Part" "alone" "()LLoanNames$All;") ∈ lw_all := lw_g (lw_at lw_m5 0 rfl) rfl
theorem q1103 : (Jvm.Cond.instanceMethod ({ cls := "LoanNames$Fork", name := "passes", desc := "(LLoanNames$Sink;IJI)V" } : Jvm.MethodName)) ∈ lw_all := lw_g (lw_at lw_m5 53 rfl) rfl
theorem q1104 : (Jvm.Cond.code ({ cls := "LoanNames$Fork", name := "passes", desc := "(LLoanNames$Sink;IJI)V" } : Jvm.MethodName) prog_8_method_5_code (6 : Nat) (Option.none : Option Jvm.ClassFile.FieldType)) ∈ lw_all := lw_g (lw_at lw_m5 54 rfl) rfl
theorem q1105 : (Jvm.Cond.methodLink "LoanNames$Fork" (16 : Nat) ({ cls := "LoanNames$Fork", name := "isFirst", desc := "(I)Z" } : Jvm.MethodName)) ∈ lw_all := lw_g (lw_at lw_m5 55 rfl) rfl
theorem q1106 : (Jvm.Cond.declares ({ cls := "LoanNames$Fork", name := "isFirst", desc := "(I)Z" } : Jvm.MethodName)) ∈ lw_tbl := lw_at lw_m5 56 rfl
theorem q1107 : (Jvm.Cond.sameMethod "LoanNames$Fork" "LoanNames$Fork" "isFirst" "(I)Z") ∈ lw_all := lw_g (lw_at lw_m5 57 rfl) rfl
theorem q1118 : (Jvm.Cond.methodLink "LoanNames$Fork" (20 : Nat) ({ cls := "LoanNames$All", name := "passes", desc := "(LLoanNames$Sink;IJI)V" } : Jvm.MethodName)) ∈ lw_all := lw_g (lw_at lw_m5 68 rfl) rfl
/-! LoanNames$If -/
set_option maxRecDepth 100000
def RX17 : String := "LoanNames$If"
def TX17 : u_T := fun k => match k with
  | 0 => ("LoanNames$Fork", "first", "LLoanNames$All;", true)
  | 1 => ("LoanNames$Fork", "second", "LLoanNames$All;", true)
  | _ => ("LoanNames$If", "event", "I", true)
def tyX17 : Nat → FieldType := fun k => match k with
  | 0 => .object "LoanNames$All"
  | 1 => .object "LoanNames$All"
  | _ => .int
abbrev wsX170 : List Cond := u_ws RX17 TX17 3
theorem nmX17 : ∀ a, a < 3 → ∀ b, b < 3 → a ≠ b → (TX17 a).2.1 ≠ (TX17 b).2.1 := by decide +kernel
theorem tyX17_ok : ∀ k, k < 3 → parseFieldDescriptor (TX17 k).2.2.1 = some (tyX17 k) := by decide +kernel
abbrev cX17_init : ByteArray := prog_10_method_1_code
def yX17_init : MethodName := ⟨RX17, "<init>", "(ILLoanNames$All;LLoanNames$All;)V"⟩
def dkwX17_init_0 : List UInt8 := [42, 44, 45, 183, 0, 1, 42, 27, 181, 0, 7, 177]
abbrev dktX17_init_0 : List UInt8 := dkwX17_init_0 ++ []
theorem dksX17_init_0 : cX17_init.data.toList.drop 0 = dktX17_init_0 := by decide +kernel
theorem dX17_init_0 : decode cX17_init 0 = .ok (.aload_n 0, 1) := dk_42 (dk_at dksX17_init_0 0 rfl rfl)
theorem dX17_init_1 : decode cX17_init 1 = .ok (.aload_n 2, 1) := dk_44 (dk_at dksX17_init_0 1 rfl rfl)
theorem dX17_init_2 : decode cX17_init 2 = .ok (.aload_n 3, 1) := dk_45 (dk_at dksX17_init_0 2 rfl rfl)
theorem dX17_init_3 : decode cX17_init 3 = .ok (.invokespecial 1, 3) := dk_183 0 1 (dk_at dksX17_init_0 3 rfl rfl)
theorem dX17_init_6 : decode cX17_init 6 = .ok (.aload_n 0, 1) := dk_42 (dk_at dksX17_init_0 6 rfl rfl)
theorem dX17_init_7 : decode cX17_init 7 = .ok (.iload_n 1, 1) := dk_27 (dk_at dksX17_init_0 7 rfl rfl)
theorem dX17_init_8 : decode cX17_init 8 = .ok (.putfield 7, 3) := dk_181 0 7 (dk_at dksX17_init_0 8 rfl rfl)
theorem dX17_init_11 : decode cX17_init 11 = .ok (.return_, 1) := dk_177 (dk_at dksX17_init_0 11 rfl rfl)
abbrev cX17_isOfKind : ByteArray := prog_10_method_3_code
def yX17_isOfKind : MethodName := ⟨RX17, "isOfKind", "(LLoanNames$Fork;)Z"⟩
def dkwX17_isOfKind_1 : List UInt8 := [167, 0, 4, 3, 172]
abbrev dktX17_isOfKind_1 : List UInt8 := dkwX17_isOfKind_1 ++ []
def dkwX17_isOfKind_0 : List UInt8 := [43, 193, 0, 8, 153, 0, 21, 43, 192, 0, 8, 180, 0, 7, 42, 180, 0, 7, 160, 0, 7, 4]
abbrev dktX17_isOfKind_0 : List UInt8 := dkwX17_isOfKind_0 ++ dktX17_isOfKind_1
theorem dksX17_isOfKind_0 : cX17_isOfKind.data.toList.drop 0 = dktX17_isOfKind_0 := by decide +kernel
theorem dksX17_isOfKind_1 : cX17_isOfKind.data.toList.drop 22 = dktX17_isOfKind_1 := dk_seg dksX17_isOfKind_0 22 rfl rfl
theorem dX17_isOfKind_0 : decode cX17_isOfKind 0 = .ok (.aload_n 1, 1) := dk_43 (dk_at dksX17_isOfKind_0 0 rfl rfl)
theorem dX17_isOfKind_1 : decode cX17_isOfKind 1 = .ok (.instanceof 8, 3) := dk_193 0 8 (dk_at dksX17_isOfKind_0 1 rfl rfl)
theorem dX17_isOfKind_4 : decode cX17_isOfKind 4 = .ok (.ifCond .eq 21, 3) := dk_153 0 21 (dk_at dksX17_isOfKind_0 4 rfl rfl)
theorem dX17_isOfKind_7 : decode cX17_isOfKind 7 = .ok (.aload_n 1, 1) := dk_43 (dk_at dksX17_isOfKind_0 7 rfl rfl)
theorem dX17_isOfKind_8 : decode cX17_isOfKind 8 = .ok (.checkcast 8, 3) := dk_192 0 8 (dk_at dksX17_isOfKind_0 8 rfl rfl)
theorem dX17_isOfKind_11 : decode cX17_isOfKind 11 = .ok (.getfield 7, 3) := dk_180 0 7 (dk_at dksX17_isOfKind_0 11 rfl rfl)
theorem dX17_isOfKind_14 : decode cX17_isOfKind 14 = .ok (.aload_n 0, 1) := dk_42 (dk_at dksX17_isOfKind_0 14 rfl rfl)
theorem dX17_isOfKind_15 : decode cX17_isOfKind 15 = .ok (.getfield 7, 3) := dk_180 0 7 (dk_at dksX17_isOfKind_0 15 rfl rfl)
theorem dX17_isOfKind_18 : decode cX17_isOfKind 18 = .ok (.if_icmp .ne 7, 3) := dk_160 0 7 (dk_at dksX17_isOfKind_0 18 rfl rfl)
theorem dX17_isOfKind_21 : decode cX17_isOfKind 21 = .ok (.iconst 1, 1) := dk_4 (dk_at dksX17_isOfKind_0 21 rfl rfl)
theorem dX17_isOfKind_22 : decode cX17_isOfKind 22 = .ok (.goto 4, 3) := dk_167 0 4 (dk_at dksX17_isOfKind_1 0 rfl rfl)
theorem dX17_isOfKind_25 : decode cX17_isOfKind 25 = .ok (.iconst 0, 1) := dk_3 (dk_at dksX17_isOfKind_1 3 rfl rfl)
theorem dX17_isOfKind_26 : decode cX17_isOfKind 26 = .ok (.ireturn, 1) := dk_172 (dk_at dksX17_isOfKind_1 4 rfl rfl)
abbrev cX17_with : ByteArray := prog_10_method_4_code
def yX17_with : MethodName := ⟨RX17, "with", "(LLoanNames$All;LLoanNames$All;)LLoanNames$Fork;"⟩
def dkwX17_with_0 : List UInt8 := [187, 0, 8, 89, 42, 180, 0, 7, 43, 44, 183, 0, 19, 176]
abbrev dktX17_with_0 : List UInt8 := dkwX17_with_0 ++ []
theorem dksX17_with_0 : cX17_with.data.toList.drop 0 = dktX17_with_0 := by decide +kernel
theorem dX17_with_0 : decode cX17_with 0 = .ok (.new 8, 3) := dk_187 0 8 (dk_at dksX17_with_0 0 rfl rfl)
theorem dX17_with_3 : decode cX17_with 3 = .ok (.dup, 1) := dk_89 (dk_at dksX17_with_0 3 rfl rfl)
theorem dX17_with_4 : decode cX17_with 4 = .ok (.aload_n 0, 1) := dk_42 (dk_at dksX17_with_0 4 rfl rfl)
theorem dX17_with_5 : decode cX17_with 5 = .ok (.getfield 7, 3) := dk_180 0 7 (dk_at dksX17_with_0 5 rfl rfl)
theorem dX17_with_8 : decode cX17_with 8 = .ok (.aload_n 1, 1) := dk_43 (dk_at dksX17_with_0 8 rfl rfl)
theorem dX17_with_9 : decode cX17_with 9 = .ok (.aload_n 2, 1) := dk_44 (dk_at dksX17_with_0 9 rfl rfl)
theorem dX17_with_10 : decode cX17_with 10 = .ok (.invokespecial 19, 3) := dk_183 0 19 (dk_at dksX17_with_0 10 rfl rfl)
theorem dX17_with_13 : decode cX17_with 13 = .ok (.areturn, 1) := dk_176 (dk_at dksX17_with_0 13 rfl rfl)
abbrev cX17_isFirst : ByteArray := prog_10_method_2_code
def yX17_isFirst : MethodName := ⟨RX17, "isFirst", "(I)Z"⟩
def dkwX17_isFirst_0 : List UInt8 := [27, 42, 180, 0, 7, 184, 0, 13, 172]
abbrev dktX17_isFirst_0 : List UInt8 := dkwX17_isFirst_0 ++ []
theorem dksX17_isFirst_0 : cX17_isFirst.data.toList.drop 0 = dktX17_isFirst_0 := by decide +kernel
theorem dX17_isFirst_0 : decode cX17_isFirst 0 = .ok (.iload_n 1, 1) := dk_27 (dk_at dksX17_isFirst_0 0 rfl rfl)
theorem dX17_isFirst_1 : decode cX17_isFirst 1 = .ok (.aload_n 0, 1) := dk_42 (dk_at dksX17_isFirst_0 1 rfl rfl)
theorem dX17_isFirst_2 : decode cX17_isFirst 2 = .ok (.getfield 7, 3) := dk_180 0 7 (dk_at dksX17_isFirst_0 2 rfl rfl)
theorem dX17_isFirst_5 : decode cX17_isFirst 5 = .ok (.invokestatic 13, 3) := dk_184 0 13 (dk_at dksX17_isFirst_0 5 rfl rfl)
theorem dX17_isFirst_8 : decode cX17_isFirst 8 = .ok (.ireturn, 1) := dk_172 (dk_at dksX17_isFirst_0 8 rfl rfl)
theorem q108 : (Jvm.Cond.initialized "LoanNames$If") ∈ lw_all := lw_g (lw_at lw_m1 18 rfl) rfl
theorem q636 : (Jvm.Cond.instantiable "LoanNames$If" (3 : Nat)) ∈ lw_all := lw_g (lw_at lw_m3 66 rfl) rfl
theorem q640 : (Jvm.Cond.instanceMethod ({ cls := "LoanNames$If", name := "<init>", desc := "(ILLoanNames$All;LLoanNames$All;)V" } : Jvm.MethodName)) ∈ lw_all := lw_g (lw_at lw_m3 70 rfl) rfl
theorem q641 : (Jvm.Cond.code ({ cls := "LoanNames$If", name := "<init>", desc := "(ILLoanNames$All;LLoanNames$All;)V" } : Jvm.MethodName) prog_10_method_1_code (4 : Nat) (Option.none : Option Jvm.ClassFile.FieldType)) ∈ lw_all := lw_g (lw_at lw_m3 71 rfl) rfl
theorem q642 : (Jvm.Cond.methodLink "LoanNames$If" (1 : Nat) ({ cls := "LoanNames$Fork", name := "<init>", desc := "(LLoanNames$All;LLoanNames$All;)V" } : Jvm.MethodName)) ∈ lw_all := lw_g (lw_at lw_m3 72 rfl) rfl
theorem q646 : (Jvm.Cond.fieldLink "LoanNames$If" (7 : Nat) "LoanNames$If" "event" "I") ∈ lw_all := lw_g (lw_at lw_m3 76 rfl) rfl
theorem q649 : (Jvm.Cond.laysFinal "LoanNames$If" "LoanNames$If" "event" "I") ∈ lw_all := lw_g (lw_at lw_m3 79 rfl) rfl
theorem q650 : (Jvm.Cond.soleField "LoanNames$If" "event") ∈ lw_all := lw_g (lw_at lw_m3 80 rfl) rfl
theorem q651 : (Jvm.Cond.laysFinal "LoanNames$If" "LoanNames$Fork" "first" "LLoanNames$All;") ∈ lw_all := lw_g (lw_at lw_m3 81 rfl) rfl
theorem q653 : (Jvm.Cond.laysFinal "LoanNames$If" "LoanNames$Fork" "second" "LLoanNames$All;") ∈ lw_all := lw_g (lw_at lw_m3 83 rfl) rfl
theorem q655 : (Jvm.Cond.superclass "LoanNames$If" "LoanNames$Fork") ∈ lw_all := lw_g (lw_at lw_m3 85 rfl) rfl
theorem q722 : (Jvm.Cond.selects "LoanNames$If" ({ cls := "LoanNames$Part", name := "leaves", desc := "(LLoanNames$LeafRow;I)V" } : Jvm.MethodName) ({ cls := "LoanNames$Fork", name := "leaves", desc := "(LLoanNames$LeafRow;I)V" } : Jvm.MethodName)) ∈ lw_all := lw_g (lw_at lw_m3 152 rfl) rfl
theorem q993 : (Jvm.Cond.selects "LoanNames$If" ({ cls := "LoanNames$Fork", name := "isOfKind", desc := "(LLoanNames$Fork;)Z" } : Jvm.MethodName) ({ cls := "LoanNames$If", name := "isOfKind", desc := "(LLoanNames$Fork;)Z" } : Jvm.MethodName)) ∈ lw_all := lw_g (lw_at lw_m4 183 rfl) rfl
theorem q994 : (Jvm.Cond.instanceMethod ({ cls := "LoanNames$If", name := "isOfKind", desc := "(LLoanNames$Fork;)Z" } : Jvm.MethodName)) ∈ lw_all := lw_g (lw_at lw_m4 184 rfl) rfl
theorem q995 : (Jvm.Cond.code ({ cls := "LoanNames$If", name := "isOfKind", desc := "(LLoanNames$Fork;)Z" } : Jvm.MethodName) prog_10_method_3_code (2 : Nat) (Option.some Jvm.ClassFile.FieldType.boolean)) ∈ lw_all := lw_g (lw_at lw_m4 185 rfl) rfl
theorem q996 : (Jvm.Cond.classLink "LoanNames$If" (8 : Nat) "LoanNames$If") ∈ lw_all := lw_g (lw_at lw_m4 186 rfl) rfl
theorem q1004 : (Jvm.Cond.selects "LoanNames$If" ({ cls := "LoanNames$Part", name := "isLike", desc := "(LLoanNames$Part;)Z" } : Jvm.MethodName) ({ cls := "LoanNames$Fork", name := "isLike", desc := "(LLoanNames$Part;)Z" } : Jvm.MethodName)) ∈ lw_all := lw_g (lw_at lw_m4 194 rfl) rfl
theorem q1029 : (Jvm.Cond.selects "LoanNames$If" ({ cls := "LoanNames$Part", name := "hasChoice", desc := "()Z" } : Jvm.MethodName) ({ cls := "LoanNames$Fork", name := "hasChoice", desc := "()Z" } : Jvm.MethodName)) ∈ lw_all := lw_g (lw_at lw_m4 219 rfl) rfl
theorem q1045 : (Jvm.Cond.selects "LoanNames$If" ({ cls := "LoanNames$Fork", name := "with", desc := "(LLoanNames$All;LLoanNames$All;)LLoanNames$Fork;" } : Jvm.MethodName) ({ cls := "LoanNames$If", name := "with", desc := "(LLoanNames$All;LLoanNames$All;)LLoanNames$Fork;" } : Jvm.MethodName)) ∈ lw_all := lw_g (lw_at lw_m4 235 rfl) rfl
theorem q1046 : (Jvm.Cond.instanceMethod ({ cls := "LoanNames$If", name := "with", desc := "(LLoanNames$All;LLoanNames$All;)LLoanNames$Fork;" } : Jvm.MethodName)) ∈ lw_all := lw_g (lw_at lw_m4 236 rfl) rfl
theorem q1047 : (Jvm.Cond.code ({ cls := "LoanNames$If", name := "with", desc := "(LLoanNames$All;LLoanNames$All;)LLoanNames$Fork;" } : Jvm.MethodName) prog_10_method_4_code (3 : Nat) (Option.some (Jvm.ClassFile.FieldType.object "LoanNames$Fork"))) ∈ lw_all := lw_g (lw_at lw_m4 237 rfl) rfl
theorem q1048 : (Jvm.Cond.methodLink "LoanNames$If" (19 : Nat) ({ cls := "LoanNames$If", name := "<init>", desc := "(ILLoanNames$All;LLoanNames$All;)V" } : Jvm.MethodName)) ∈ lw_all := lw_g (lw_at lw_m4 238 rfl) rfl
theorem q1052 : (Jvm.Cond.selects "LoanNames$If" ({ cls := "LoanNames$Fork", name := "alone", desc := "()LLoanNames$All;" } : Jvm.MethodName) ({ cls := "LoanNames$Part", name := "alone", desc := "()LLoanNames$All;" } : Jvm.MethodName)) ∈ lw_all := lw_g (lw_at lw_m5 2 rfl) rfl
theorem q1061 : (Jvm.Cond.selects "LoanNames$If" ({ cls := "LoanNames$Part", name := "plain", desc := "(LLoanNames$Plain;)LLoanNames$All;" } : Jvm.MethodName) ({ cls := "LoanNames$Fork", name := "plain", desc := "(LLoanNames$Plain;)LLoanNames$All;" } : Jvm.MethodName)) ∈ lw_all := lw_g (lw_at lw_m5 11 rfl) rfl
theorem q1114 : (Jvm.Cond.selects "LoanNames$If" ({ cls := "LoanNames$Fork", name := "isFirst", desc := "(I)Z" } : Jvm.MethodName) ({ cls := "LoanNames$If", name := "isFirst", desc := "(I)Z" } : Jvm.MethodName)) ∈ lw_all := lw_g (lw_at lw_m5 64 rfl) rfl
theorem q1115 : (Jvm.Cond.instanceMethod ({ cls := "LoanNames$If", name := "isFirst", desc := "(I)Z" } : Jvm.MethodName)) ∈ lw_all := lw_g (lw_at lw_m5 65 rfl) rfl
theorem q1116 : (Jvm.Cond.code ({ cls := "LoanNames$If", name := "isFirst", desc := "(I)Z" } : Jvm.MethodName) prog_10_method_2_code (2 : Nat) (Option.some Jvm.ClassFile.FieldType.boolean)) ∈ lw_all := lw_g (lw_at lw_m5 66 rfl) rfl
theorem q1117 : (Jvm.Cond.methodLinkNest "LoanNames$If" (13 : Nat) ({ cls := "LoanNames", name := "has", desc := "(II)Z" } : Jvm.MethodName) "LoanNames") ∈ lw_tbl := lw_at lw_m5 67 rfl
theorem q1126 : (Jvm.Cond.selects "LoanNames$If" ({ cls := "LoanNames$Part", name := "passes", desc := "(LLoanNames$Sink;IJI)V" } : Jvm.MethodName) ({ cls := "LoanNames$Fork", name := "passes", desc := "(LLoanNames$Sink;IJI)V" } : Jvm.MethodName)) ∈ lw_all := lw_g (lw_at lw_m5 76 rfl) rfl
theorem q2150 : (Jvm.Cond.castable "LoanNames$If" "LoanNames$Fork") ∈ lw_tbl := lw_at lw_m9 140 rfl
theorem q2159 : (Jvm.Cond.castable "LoanNames$If" "LoanNames$Part") ∈ lw_tbl := lw_at lw_m9 149 rfl
theorem in_X17 : ∀ w ∈ wsX170, w ∈ lw_all := lw_in wsX170 [651, 653, 649] (by decide +kernel) (by decide +kernel)
/-! LoanNames$Choice -/
set_option maxRecDepth 100000
def RX18 : String := "LoanNames$Choice"
def TX18 : u_T := fun k => match k with
  | 0 => ("LoanNames$Fork", "first", "LLoanNames$All;", true)
  | 1 => ("LoanNames$Fork", "second", "LLoanNames$All;", true)
  | 2 => ("LoanNames$Choice", "hand", "I", true)
  | _ => ("LoanNames$Choice", "number", "I", true)
def tyX18 : Nat → FieldType := fun k => match k with
  | 0 => .object "LoanNames$All"
  | 1 => .object "LoanNames$All"
  | 2 => .int
  | _ => .int
abbrev wsX180 : List Cond := u_ws RX18 TX18 4
theorem nmX18 : ∀ a, a < 4 → ∀ b, b < 4 → a ≠ b → (TX18 a).2.1 ≠ (TX18 b).2.1 := by decide +kernel
theorem tyX18_ok : ∀ k, k < 4 → parseFieldDescriptor (TX18 k).2.2.1 = some (tyX18 k) := by decide +kernel
abbrev cX18_init : ByteArray := prog_5_method_1_code
def yX18_init : MethodName := ⟨RX18, "<init>", "(IILLoanNames$All;LLoanNames$All;)V"⟩
def dkwX18_init_0 : List UInt8 := [42, 45, 25, 4, 183, 0, 3, 42, 27, 181, 0, 9, 42, 28, 181, 0, 15, 177]
abbrev dktX18_init_0 : List UInt8 := dkwX18_init_0 ++ []
theorem dksX18_init_0 : cX18_init.data.toList.drop 0 = dktX18_init_0 := by decide +kernel
theorem dX18_init_0 : decode cX18_init 0 = .ok (.aload_n 0, 1) := dk_42 (dk_at dksX18_init_0 0 rfl rfl)
theorem dX18_init_1 : decode cX18_init 1 = .ok (.aload_n 3, 1) := dk_45 (dk_at dksX18_init_0 1 rfl rfl)
theorem dX18_init_2 : decode cX18_init 2 = .ok (.aload 4, 2) := dk_25 4 (dk_at dksX18_init_0 2 rfl rfl)
theorem dX18_init_4 : decode cX18_init 4 = .ok (.invokespecial 3, 3) := dk_183 0 3 (dk_at dksX18_init_0 4 rfl rfl)
theorem dX18_init_7 : decode cX18_init 7 = .ok (.aload_n 0, 1) := dk_42 (dk_at dksX18_init_0 7 rfl rfl)
theorem dX18_init_8 : decode cX18_init 8 = .ok (.iload_n 1, 1) := dk_27 (dk_at dksX18_init_0 8 rfl rfl)
theorem dX18_init_9 : decode cX18_init 9 = .ok (.putfield 9, 3) := dk_181 0 9 (dk_at dksX18_init_0 9 rfl rfl)
theorem dX18_init_12 : decode cX18_init 12 = .ok (.aload_n 0, 1) := dk_42 (dk_at dksX18_init_0 12 rfl rfl)
theorem dX18_init_13 : decode cX18_init 13 = .ok (.iload_n 2, 1) := dk_28 (dk_at dksX18_init_0 13 rfl rfl)
theorem dX18_init_14 : decode cX18_init 14 = .ok (.putfield 15, 3) := dk_181 0 15 (dk_at dksX18_init_0 14 rfl rfl)
theorem dX18_init_17 : decode cX18_init 17 = .ok (.return_, 1) := dk_177 (dk_at dksX18_init_0 17 rfl rfl)
abbrev cX18_isOfKind : ByteArray := prog_5_method_3_code
def yX18_isOfKind : MethodName := ⟨RX18, "isOfKind", "(LLoanNames$Fork;)Z"⟩
def dkwX18_isOfKind_1 : List UInt8 := [192, 0, 10, 180, 0, 15, 42, 180, 0, 15, 160, 0, 7, 4, 167, 0, 4, 3, 172]
abbrev dktX18_isOfKind_1 : List UInt8 := dkwX18_isOfKind_1 ++ []
def dkwX18_isOfKind_0 : List UInt8 := [43, 193, 0, 10, 153, 0, 35, 43, 192, 0, 10, 180, 0, 9, 42, 180, 0, 9, 160, 0, 21, 43]
abbrev dktX18_isOfKind_0 : List UInt8 := dkwX18_isOfKind_0 ++ dktX18_isOfKind_1
theorem dksX18_isOfKind_0 : cX18_isOfKind.data.toList.drop 0 = dktX18_isOfKind_0 := by decide +kernel
theorem dksX18_isOfKind_1 : cX18_isOfKind.data.toList.drop 22 = dktX18_isOfKind_1 := dk_seg dksX18_isOfKind_0 22 rfl rfl
theorem dX18_isOfKind_0 : decode cX18_isOfKind 0 = .ok (.aload_n 1, 1) := dk_43 (dk_at dksX18_isOfKind_0 0 rfl rfl)
theorem dX18_isOfKind_1 : decode cX18_isOfKind 1 = .ok (.instanceof 10, 3) := dk_193 0 10 (dk_at dksX18_isOfKind_0 1 rfl rfl)
theorem dX18_isOfKind_4 : decode cX18_isOfKind 4 = .ok (.ifCond .eq 35, 3) := dk_153 0 35 (dk_at dksX18_isOfKind_0 4 rfl rfl)
theorem dX18_isOfKind_7 : decode cX18_isOfKind 7 = .ok (.aload_n 1, 1) := dk_43 (dk_at dksX18_isOfKind_0 7 rfl rfl)
theorem dX18_isOfKind_8 : decode cX18_isOfKind 8 = .ok (.checkcast 10, 3) := dk_192 0 10 (dk_at dksX18_isOfKind_0 8 rfl rfl)
theorem dX18_isOfKind_11 : decode cX18_isOfKind 11 = .ok (.getfield 9, 3) := dk_180 0 9 (dk_at dksX18_isOfKind_0 11 rfl rfl)
theorem dX18_isOfKind_14 : decode cX18_isOfKind 14 = .ok (.aload_n 0, 1) := dk_42 (dk_at dksX18_isOfKind_0 14 rfl rfl)
theorem dX18_isOfKind_15 : decode cX18_isOfKind 15 = .ok (.getfield 9, 3) := dk_180 0 9 (dk_at dksX18_isOfKind_0 15 rfl rfl)
theorem dX18_isOfKind_18 : decode cX18_isOfKind 18 = .ok (.if_icmp .ne 21, 3) := dk_160 0 21 (dk_at dksX18_isOfKind_0 18 rfl rfl)
theorem dX18_isOfKind_21 : decode cX18_isOfKind 21 = .ok (.aload_n 1, 1) := dk_43 (dk_at dksX18_isOfKind_0 21 rfl rfl)
theorem dX18_isOfKind_22 : decode cX18_isOfKind 22 = .ok (.checkcast 10, 3) := dk_192 0 10 (dk_at dksX18_isOfKind_1 0 rfl rfl)
theorem dX18_isOfKind_25 : decode cX18_isOfKind 25 = .ok (.getfield 15, 3) := dk_180 0 15 (dk_at dksX18_isOfKind_1 3 rfl rfl)
theorem dX18_isOfKind_28 : decode cX18_isOfKind 28 = .ok (.aload_n 0, 1) := dk_42 (dk_at dksX18_isOfKind_1 6 rfl rfl)
theorem dX18_isOfKind_29 : decode cX18_isOfKind 29 = .ok (.getfield 15, 3) := dk_180 0 15 (dk_at dksX18_isOfKind_1 7 rfl rfl)
theorem dX18_isOfKind_32 : decode cX18_isOfKind 32 = .ok (.if_icmp .ne 7, 3) := dk_160 0 7 (dk_at dksX18_isOfKind_1 10 rfl rfl)
theorem dX18_isOfKind_35 : decode cX18_isOfKind 35 = .ok (.iconst 1, 1) := dk_4 (dk_at dksX18_isOfKind_1 13 rfl rfl)
theorem dX18_isOfKind_36 : decode cX18_isOfKind 36 = .ok (.goto 4, 3) := dk_167 0 4 (dk_at dksX18_isOfKind_1 14 rfl rfl)
theorem dX18_isOfKind_39 : decode cX18_isOfKind 39 = .ok (.iconst 0, 1) := dk_3 (dk_at dksX18_isOfKind_1 17 rfl rfl)
theorem dX18_isOfKind_40 : decode cX18_isOfKind 40 = .ok (.ireturn, 1) := dk_172 (dk_at dksX18_isOfKind_1 18 rfl rfl)
abbrev cX18_hasChoice : ByteArray := prog_5_method_5_code
def yX18_hasChoice : MethodName := ⟨RX18, "hasChoice", "()Z"⟩
theorem dX18_hasChoice_0 : decode cX18_hasChoice 0 = .ok (.iconst 1, 1) := by decide +kernel
theorem dX18_hasChoice_1 : decode cX18_hasChoice 1 = .ok (.ireturn, 1) := by decide +kernel
abbrev cX18_with : ByteArray := prog_5_method_4_code
def yX18_with : MethodName := ⟨RX18, "with", "(LLoanNames$All;LLoanNames$All;)LLoanNames$Fork;"⟩
def dkwX18_with_0 : List UInt8 := [187, 0, 10, 89, 42, 180, 0, 9, 42, 180, 0, 15, 43, 44, 183, 0, 22, 176]
abbrev dktX18_with_0 : List UInt8 := dkwX18_with_0 ++ []
theorem dksX18_with_0 : cX18_with.data.toList.drop 0 = dktX18_with_0 := by decide +kernel
theorem dX18_with_0 : decode cX18_with 0 = .ok (.new 10, 3) := dk_187 0 10 (dk_at dksX18_with_0 0 rfl rfl)
theorem dX18_with_3 : decode cX18_with 3 = .ok (.dup, 1) := dk_89 (dk_at dksX18_with_0 3 rfl rfl)
theorem dX18_with_4 : decode cX18_with 4 = .ok (.aload_n 0, 1) := dk_42 (dk_at dksX18_with_0 4 rfl rfl)
theorem dX18_with_5 : decode cX18_with 5 = .ok (.getfield 9, 3) := dk_180 0 9 (dk_at dksX18_with_0 5 rfl rfl)
theorem dX18_with_8 : decode cX18_with 8 = .ok (.aload_n 0, 1) := dk_42 (dk_at dksX18_with_0 8 rfl rfl)
theorem dX18_with_9 : decode cX18_with 9 = .ok (.getfield 15, 3) := dk_180 0 15 (dk_at dksX18_with_0 9 rfl rfl)
theorem dX18_with_12 : decode cX18_with 12 = .ok (.aload_n 1, 1) := dk_43 (dk_at dksX18_with_0 12 rfl rfl)
theorem dX18_with_13 : decode cX18_with 13 = .ok (.aload_n 2, 1) := dk_44 (dk_at dksX18_with_0 13 rfl rfl)
theorem dX18_with_14 : decode cX18_with 14 = .ok (.invokespecial 22, 3) := dk_183 0 22 (dk_at dksX18_with_0 14 rfl rfl)
theorem dX18_with_17 : decode cX18_with 17 = .ok (.areturn, 1) := dk_176 (dk_at dksX18_with_0 17 rfl rfl)
abbrev cX18_isFirst : ByteArray := prog_5_method_2_code
def yX18_isFirst : MethodName := ⟨RX18, "isFirst", "(I)Z"⟩
def dkwX18_isFirst_0 : List UInt8 := [27, 8, 42, 180, 0, 15, 96, 184, 0, 18, 154, 0, 7, 4, 167, 0, 4, 3, 172]
abbrev dktX18_isFirst_0 : List UInt8 := dkwX18_isFirst_0 ++ []
theorem dksX18_isFirst_0 : cX18_isFirst.data.toList.drop 0 = dktX18_isFirst_0 := by decide +kernel
theorem dX18_isFirst_0 : decode cX18_isFirst 0 = .ok (.iload_n 1, 1) := dk_27 (dk_at dksX18_isFirst_0 0 rfl rfl)
theorem dX18_isFirst_1 : decode cX18_isFirst 1 = .ok (.iconst 5, 1) := dk_8 (dk_at dksX18_isFirst_0 1 rfl rfl)
theorem dX18_isFirst_2 : decode cX18_isFirst 2 = .ok (.aload_n 0, 1) := dk_42 (dk_at dksX18_isFirst_0 2 rfl rfl)
theorem dX18_isFirst_3 : decode cX18_isFirst 3 = .ok (.getfield 15, 3) := dk_180 0 15 (dk_at dksX18_isFirst_0 3 rfl rfl)
theorem dX18_isFirst_6 : decode cX18_isFirst 6 = .ok (.iadd, 1) := dk_96 (dk_at dksX18_isFirst_0 6 rfl rfl)
theorem dX18_isFirst_7 : decode cX18_isFirst 7 = .ok (.invokestatic 18, 3) := dk_184 0 18 (dk_at dksX18_isFirst_0 7 rfl rfl)
theorem dX18_isFirst_10 : decode cX18_isFirst 10 = .ok (.ifCond .ne 7, 3) := dk_154 0 7 (dk_at dksX18_isFirst_0 10 rfl rfl)
theorem dX18_isFirst_13 : decode cX18_isFirst 13 = .ok (.iconst 1, 1) := dk_4 (dk_at dksX18_isFirst_0 13 rfl rfl)
theorem dX18_isFirst_14 : decode cX18_isFirst 14 = .ok (.goto 4, 3) := dk_167 0 4 (dk_at dksX18_isFirst_0 14 rfl rfl)
theorem dX18_isFirst_17 : decode cX18_isFirst 17 = .ok (.iconst 0, 1) := dk_3 (dk_at dksX18_isFirst_0 17 rfl rfl)
theorem dX18_isFirst_18 : decode cX18_isFirst 18 = .ok (.ireturn, 1) := dk_172 (dk_at dksX18_isFirst_0 18 rfl rfl)
theorem q109 : (Jvm.Cond.initialized "LoanNames$Choice") ∈ lw_all := lw_g (lw_at lw_m1 19 rfl) rfl
theorem q663 : (Jvm.Cond.instantiable "LoanNames$Choice" (4 : Nat)) ∈ lw_all := lw_g (lw_at lw_m3 93 rfl) rfl
theorem q667 : (Jvm.Cond.instanceMethod ({ cls := "LoanNames$Choice", name := "<init>", desc := "(IILLoanNames$All;LLoanNames$All;)V" } : Jvm.MethodName)) ∈ lw_all := lw_g (lw_at lw_m3 97 rfl) rfl
theorem q668 : (Jvm.Cond.code ({ cls := "LoanNames$Choice", name := "<init>", desc := "(IILLoanNames$All;LLoanNames$All;)V" } : Jvm.MethodName) prog_5_method_1_code (5 : Nat) (Option.none : Option Jvm.ClassFile.FieldType)) ∈ lw_all := lw_g (lw_at lw_m3 98 rfl) rfl
theorem q669 : (Jvm.Cond.methodLink "LoanNames$Choice" (3 : Nat) ({ cls := "LoanNames$Fork", name := "<init>", desc := "(LLoanNames$All;LLoanNames$All;)V" } : Jvm.MethodName)) ∈ lw_all := lw_g (lw_at lw_m3 99 rfl) rfl
theorem q670 : (Jvm.Cond.fieldLink "LoanNames$Choice" (9 : Nat) "LoanNames$Choice" "hand" "I") ∈ lw_all := lw_g (lw_at lw_m3 100 rfl) rfl
theorem q671 : (Jvm.Cond.fieldLink "LoanNames$Choice" (15 : Nat) "LoanNames$Choice" "number" "I") ∈ lw_all := lw_g (lw_at lw_m3 101 rfl) rfl
theorem q672 : (Jvm.Cond.laysFinal "LoanNames$Choice" "LoanNames$Choice" "hand" "I") ∈ lw_all := lw_g (lw_at lw_m3 102 rfl) rfl
theorem q673 : (Jvm.Cond.soleField "LoanNames$Choice" "hand") ∈ lw_all := lw_g (lw_at lw_m3 103 rfl) rfl
theorem q674 : (Jvm.Cond.laysFinal "LoanNames$Choice" "LoanNames$Choice" "number" "I") ∈ lw_all := lw_g (lw_at lw_m3 104 rfl) rfl
theorem q675 : (Jvm.Cond.soleField "LoanNames$Choice" "number") ∈ lw_all := lw_g (lw_at lw_m3 105 rfl) rfl
theorem q676 : (Jvm.Cond.laysFinal "LoanNames$Choice" "LoanNames$Fork" "first" "LLoanNames$All;") ∈ lw_all := lw_g (lw_at lw_m3 106 rfl) rfl
theorem q677 : (Jvm.Cond.laysFinal "LoanNames$Choice" "LoanNames$Fork" "second" "LLoanNames$All;") ∈ lw_all := lw_g (lw_at lw_m3 107 rfl) rfl
theorem q678 : (Jvm.Cond.superclass "LoanNames$Choice" "LoanNames$Fork") ∈ lw_all := lw_g (lw_at lw_m3 108 rfl) rfl
theorem q711 : (Jvm.Cond.selects "LoanNames$Choice" ({ cls := "LoanNames$Part", name := "leaves", desc := "(LLoanNames$LeafRow;I)V" } : Jvm.MethodName) ({ cls := "LoanNames$Fork", name := "leaves", desc := "(LLoanNames$LeafRow;I)V" } : Jvm.MethodName)) ∈ lw_all := lw_g (lw_at lw_m3 141 rfl) rfl
theorem q967 : (Jvm.Cond.selects "LoanNames$Choice" ({ cls := "LoanNames$Part", name := "plain", desc := "(LLoanNames$Plain;)LLoanNames$All;" } : Jvm.MethodName) ({ cls := "LoanNames$Fork", name := "plain", desc := "(LLoanNames$Plain;)LLoanNames$All;" } : Jvm.MethodName)) ∈ lw_all := lw_g (lw_at lw_m4 157 rfl) rfl
theorem q982 : (Jvm.Cond.selects "LoanNames$Choice" ({ cls := "LoanNames$Part", name := "isLike", desc := "(LLoanNames$Part;)Z" } : Jvm.MethodName) ({ cls := "LoanNames$Fork", name := "isLike", desc := "(LLoanNames$Part;)Z" } : Jvm.MethodName)) ∈ lw_all := lw_g (lw_at lw_m4 172 rfl) rfl
theorem q989 : (Jvm.Cond.selects "LoanNames$Choice" ({ cls := "LoanNames$Fork", name := "isOfKind", desc := "(LLoanNames$Fork;)Z" } : Jvm.MethodName) ({ cls := "LoanNames$Choice", name := "isOfKind", desc := "(LLoanNames$Fork;)Z" } : Jvm.MethodName)) ∈ lw_all := lw_g (lw_at lw_m4 179 rfl) rfl
theorem q990 : (Jvm.Cond.instanceMethod ({ cls := "LoanNames$Choice", name := "isOfKind", desc := "(LLoanNames$Fork;)Z" } : Jvm.MethodName)) ∈ lw_all := lw_g (lw_at lw_m4 180 rfl) rfl
theorem q991 : (Jvm.Cond.code ({ cls := "LoanNames$Choice", name := "isOfKind", desc := "(LLoanNames$Fork;)Z" } : Jvm.MethodName) prog_5_method_3_code (2 : Nat) (Option.some Jvm.ClassFile.FieldType.boolean)) ∈ lw_all := lw_g (lw_at lw_m4 181 rfl) rfl
theorem q992 : (Jvm.Cond.classLink "LoanNames$Choice" (10 : Nat) "LoanNames$Choice") ∈ lw_all := lw_g (lw_at lw_m4 182 rfl) rfl
theorem q1023 : (Jvm.Cond.selects "LoanNames$Choice" ({ cls := "LoanNames$Part", name := "hasChoice", desc := "()Z" } : Jvm.MethodName) ({ cls := "LoanNames$Choice", name := "hasChoice", desc := "()Z" } : Jvm.MethodName)) ∈ lw_all := lw_g (lw_at lw_m4 213 rfl) rfl
theorem q1024 : (Jvm.Cond.instanceMethod ({ cls := "LoanNames$Choice", name := "hasChoice", desc := "()Z" } : Jvm.MethodName)) ∈ lw_all := lw_g (lw_at lw_m4 214 rfl) rfl
theorem q1025 : (Jvm.Cond.code ({ cls := "LoanNames$Choice", name := "hasChoice", desc := "()Z" } : Jvm.MethodName) prog_5_method_5_code (1 : Nat) (Option.some Jvm.ClassFile.FieldType.boolean)) ∈ lw_all := lw_g (lw_at lw_m4 215 rfl) rfl
theorem q1041 : (Jvm.Cond.selects "LoanNames$Choice" ({ cls := "LoanNames$Fork", name := "with", desc := "(LLoanNames$All;LLoanNames$All;)LLoanNames$Fork;" } : Jvm.MethodName) ({ cls := "LoanNames$Choice", name := "with", desc := "(LLoanNames$All;LLoanNames$All;)LLoanNames$Fork;" } : Jvm.MethodName)) ∈ lw_all := lw_g (lw_at lw_m4 231 rfl) rfl
theorem q1042 : (Jvm.Cond.instanceMethod ({ cls := "LoanNames$Choice", name := "with", desc := "(LLoanNames$All;LLoanNames$All;)LLoanNames$Fork;" } : Jvm.MethodName)) ∈ lw_all := lw_g (lw_at lw_m4 232 rfl) rfl
theorem q1043 : (Jvm.Cond.code ({ cls := "LoanNames$Choice", name := "with", desc := "(LLoanNames$All;LLoanNames$All;)LLoanNames$Fork;" } : Jvm.MethodName) prog_5_method_4_code (3 : Nat) (Option.some (Jvm.ClassFile.FieldType.object "LoanNames$Fork"))) ∈ lw_all := lw_g (lw_at lw_m4 233 rfl) rfl
theorem q1044 : (Jvm.Cond.methodLink "LoanNames$Choice" (22 : Nat) ({ cls := "LoanNames$Choice", name := "<init>", desc := "(IILLoanNames$All;LLoanNames$All;)V" } : Jvm.MethodName)) ∈ lw_all := lw_g (lw_at lw_m4 234 rfl) rfl
theorem q1051 : (Jvm.Cond.selects "LoanNames$Choice" ({ cls := "LoanNames$Fork", name := "alone", desc := "()LLoanNames$All;" } : Jvm.MethodName) ({ cls := "LoanNames$Part", name := "alone", desc := "()LLoanNames$All;" } : Jvm.MethodName)) ∈ lw_all := lw_g (lw_at lw_m5 1 rfl) rfl
theorem q1102 : (Jvm.Cond.selects "LoanNames$Choice" ({ cls := "LoanNames$Part", name := "passes", desc := "(LLoanNames$Sink;IJI)V" } : Jvm.MethodName) ({ cls := "LoanNames$Fork", name := "passes", desc := "(LLoanNames$Sink;IJI)V" } : Jvm.MethodName)) ∈ lw_all := lw_g (lw_at lw_m5 52 rfl) rfl
theorem q1108 : (Jvm.Cond.selects "LoanNames$Choice" ({ cls := "LoanNames$Fork", name := "isFirst", desc := "(I)Z" } : Jvm.MethodName) ({ cls := "LoanNames$Choice", name := "isFirst", desc := "(I)Z" } : Jvm.MethodName)) ∈ lw_all := lw_g (lw_at lw_m5 58 rfl) rfl
theorem q1109 : (Jvm.Cond.instanceMethod ({ cls := "LoanNames$Choice", name := "isFirst", desc := "(I)Z" } : Jvm.MethodName)) ∈ lw_all := lw_g (lw_at lw_m5 59 rfl) rfl
theorem q1110 : (Jvm.Cond.code ({ cls := "LoanNames$Choice", name := "isFirst", desc := "(I)Z" } : Jvm.MethodName) prog_5_method_2_code (2 : Nat) (Option.some Jvm.ClassFile.FieldType.boolean)) ∈ lw_all := lw_g (lw_at lw_m5 60 rfl) rfl
theorem q1111 : (Jvm.Cond.methodLinkNest "LoanNames$Choice" (18 : Nat) ({ cls := "LoanNames", name := "has", desc := "(II)Z" } : Jvm.MethodName) "LoanNames") ∈ lw_tbl := lw_at lw_m5 61 rfl
theorem q2149 : (Jvm.Cond.castable "LoanNames$Choice" "LoanNames$Fork") ∈ lw_tbl := lw_at lw_m9 139 rfl
theorem q2160 : (Jvm.Cond.castable "LoanNames$Choice" "LoanNames$Part") ∈ lw_tbl := lw_at lw_m9 150 rfl
theorem in_X18 : ∀ w ∈ wsX180, w ∈ lw_all := lw_in wsX180 [676, 677, 672, 674] (by decide +kernel) (by decide +kernel)
/-! LoanNames$Deal -/
set_option maxRecDepth 100000
def RX19 : String := "LoanNames$Deal"
def TX19 : u_T := fun k => match k with
  | 0 => ("LoanNames$Deal", "number", "I", true)
  | 1 => ("LoanNames$Deal", "signed", "I", true)
  | 2 => ("LoanNames$Deal", "choices", "I", true)
  | 3 => ("LoanNames$Deal", "events", "I", true)
  | 4 => ("LoanNames$Deal", "all", "LLoanNames$All;", true)
  | _ => ("LoanNames$Deal", "row", "LLoanNames$LeafRow;", true)
def tyX19 : Nat → FieldType := fun k => match k with
  | 0 => .int
  | 1 => .int
  | 2 => .int
  | 3 => .int
  | 4 => .object "LoanNames$All"
  | _ => .object "LoanNames$LeafRow"
abbrev wsX190 : List Cond := u_ws RX19 TX19 6
theorem nmX19 : ∀ a, a < 6 → ∀ b, b < 6 → a ≠ b → (TX19 a).2.1 ≠ (TX19 b).2.1 := by decide +kernel
theorem tyX19_ok : ∀ k, k < 6 → parseFieldDescriptor (TX19 k).2.2.1 = some (tyX19 k) := by decide +kernel
abbrev cX19_init : ByteArray := prog_6_method_1_code
def yX19_init : MethodName := ⟨RX19, "<init>", "(IILLoanNames$All;II)V"⟩
def dkwX19_init_2 : List UInt8 := [180, 0, 10, 3, 182, 0, 33, 177]
abbrev dktX19_init_2 : List UInt8 := dkwX19_init_2 ++ []
def dkwX19_init_1 : List UInt8 := [181, 0, 20, 42, 45, 181, 0, 23, 42, 21, 4, 181, 0, 27, 42, 21, 5, 181, 0, 30, 45, 42]
abbrev dktX19_init_1 : List UInt8 := dkwX19_init_1 ++ dktX19_init_2
def dkwX19_init_0 : List UInt8 := [42, 183, 0, 1, 42, 187, 0, 7, 89, 183, 0, 9, 181, 0, 10, 42, 27, 181, 0, 16, 42, 28]
abbrev dktX19_init_0 : List UInt8 := dkwX19_init_0 ++ dktX19_init_1
theorem dksX19_init_0 : cX19_init.data.toList.drop 0 = dktX19_init_0 := by decide +kernel
theorem dksX19_init_1 : cX19_init.data.toList.drop 22 = dktX19_init_1 := dk_seg dksX19_init_0 22 rfl rfl
theorem dksX19_init_2 : cX19_init.data.toList.drop 44 = dktX19_init_2 := dk_seg dksX19_init_1 22 rfl rfl
theorem dX19_init_0 : decode cX19_init 0 = .ok (.aload_n 0, 1) := dk_42 (dk_at dksX19_init_0 0 rfl rfl)
theorem dX19_init_1 : decode cX19_init 1 = .ok (.invokespecial 1, 3) := dk_183 0 1 (dk_at dksX19_init_0 1 rfl rfl)
theorem dX19_init_4 : decode cX19_init 4 = .ok (.aload_n 0, 1) := dk_42 (dk_at dksX19_init_0 4 rfl rfl)
theorem dX19_init_5 : decode cX19_init 5 = .ok (.new 7, 3) := dk_187 0 7 (dk_at dksX19_init_0 5 rfl rfl)
theorem dX19_init_8 : decode cX19_init 8 = .ok (.dup, 1) := dk_89 (dk_at dksX19_init_0 8 rfl rfl)
theorem dX19_init_9 : decode cX19_init 9 = .ok (.invokespecial 9, 3) := dk_183 0 9 (dk_at dksX19_init_0 9 rfl rfl)
theorem dX19_init_12 : decode cX19_init 12 = .ok (.putfield 10, 3) := dk_181 0 10 (dk_at dksX19_init_0 12 rfl rfl)
theorem dX19_init_15 : decode cX19_init 15 = .ok (.aload_n 0, 1) := dk_42 (dk_at dksX19_init_0 15 rfl rfl)
theorem dX19_init_16 : decode cX19_init 16 = .ok (.iload_n 1, 1) := dk_27 (dk_at dksX19_init_0 16 rfl rfl)
theorem dX19_init_17 : decode cX19_init 17 = .ok (.putfield 16, 3) := dk_181 0 16 (dk_at dksX19_init_0 17 rfl rfl)
theorem dX19_init_20 : decode cX19_init 20 = .ok (.aload_n 0, 1) := dk_42 (dk_at dksX19_init_0 20 rfl rfl)
theorem dX19_init_21 : decode cX19_init 21 = .ok (.iload_n 2, 1) := dk_28 (dk_at dksX19_init_0 21 rfl rfl)
theorem dX19_init_22 : decode cX19_init 22 = .ok (.putfield 20, 3) := dk_181 0 20 (dk_at dksX19_init_1 0 rfl rfl)
theorem dX19_init_25 : decode cX19_init 25 = .ok (.aload_n 0, 1) := dk_42 (dk_at dksX19_init_1 3 rfl rfl)
theorem dX19_init_26 : decode cX19_init 26 = .ok (.aload_n 3, 1) := dk_45 (dk_at dksX19_init_1 4 rfl rfl)
theorem dX19_init_27 : decode cX19_init 27 = .ok (.putfield 23, 3) := dk_181 0 23 (dk_at dksX19_init_1 5 rfl rfl)
theorem dX19_init_30 : decode cX19_init 30 = .ok (.aload_n 0, 1) := dk_42 (dk_at dksX19_init_1 8 rfl rfl)
theorem dX19_init_31 : decode cX19_init 31 = .ok (.iload 4, 2) := dk_21 4 (dk_at dksX19_init_1 9 rfl rfl)
theorem dX19_init_33 : decode cX19_init 33 = .ok (.putfield 27, 3) := dk_181 0 27 (dk_at dksX19_init_1 11 rfl rfl)
theorem dX19_init_36 : decode cX19_init 36 = .ok (.aload_n 0, 1) := dk_42 (dk_at dksX19_init_1 14 rfl rfl)
theorem dX19_init_37 : decode cX19_init 37 = .ok (.iload 5, 2) := dk_21 5 (dk_at dksX19_init_1 15 rfl rfl)
theorem dX19_init_39 : decode cX19_init 39 = .ok (.putfield 30, 3) := dk_181 0 30 (dk_at dksX19_init_1 17 rfl rfl)
theorem dX19_init_42 : decode cX19_init 42 = .ok (.aload_n 3, 1) := dk_45 (dk_at dksX19_init_1 20 rfl rfl)
theorem dX19_init_43 : decode cX19_init 43 = .ok (.aload_n 0, 1) := dk_42 (dk_at dksX19_init_1 21 rfl rfl)
theorem dX19_init_44 : decode cX19_init 44 = .ok (.getfield 10, 3) := dk_180 0 10 (dk_at dksX19_init_2 0 rfl rfl)
theorem dX19_init_47 : decode cX19_init 47 = .ok (.iconst 0, 1) := dk_3 (dk_at dksX19_init_2 3 rfl rfl)
theorem dX19_init_48 : decode cX19_init 48 = .ok (.invokevirtual 33, 3) := dk_182 0 33 (dk_at dksX19_init_2 4 rfl rfl)
theorem dX19_init_51 : decode cX19_init 51 = .ok (.return_, 1) := dk_177 (dk_at dksX19_init_2 7 rfl rfl)
abbrev cX19_things : ByteArray := prog_6_method_2_code
def yX19_things : MethodName := ⟨RX19, "things", "()I"⟩
def dkwX19_things_1 : List UInt8 := [28, 50, 180, 0, 45, 120, 128, 60, 132, 2, 1, 167, 255, 225, 27, 172]
abbrev dktX19_things_1 : List UInt8 := dkwX19_things_1 ++ []
def dkwX19_things_0 : List UInt8 := [3, 60, 3, 61, 28, 42, 180, 0, 10, 180, 0, 39, 162, 0, 26, 27, 4, 42, 180, 0, 10, 180, 0, 42]
abbrev dktX19_things_0 : List UInt8 := dkwX19_things_0 ++ dktX19_things_1
theorem dksX19_things_0 : cX19_things.data.toList.drop 0 = dktX19_things_0 := by decide +kernel
theorem dksX19_things_1 : cX19_things.data.toList.drop 24 = dktX19_things_1 := dk_seg dksX19_things_0 24 rfl rfl
theorem dX19_things_0 : decode cX19_things 0 = .ok (.iconst 0, 1) := dk_3 (dk_at dksX19_things_0 0 rfl rfl)
theorem dX19_things_1 : decode cX19_things 1 = .ok (.istore_n 1, 1) := dk_60 (dk_at dksX19_things_0 1 rfl rfl)
theorem dX19_things_2 : decode cX19_things 2 = .ok (.iconst 0, 1) := dk_3 (dk_at dksX19_things_0 2 rfl rfl)
theorem dX19_things_3 : decode cX19_things 3 = .ok (.istore_n 2, 1) := dk_61 (dk_at dksX19_things_0 3 rfl rfl)
theorem dX19_things_4 : decode cX19_things 4 = .ok (.iload_n 2, 1) := dk_28 (dk_at dksX19_things_0 4 rfl rfl)
theorem dX19_things_5 : decode cX19_things 5 = .ok (.aload_n 0, 1) := dk_42 (dk_at dksX19_things_0 5 rfl rfl)
theorem dX19_things_6 : decode cX19_things 6 = .ok (.getfield 10, 3) := dk_180 0 10 (dk_at dksX19_things_0 6 rfl rfl)
theorem dX19_things_9 : decode cX19_things 9 = .ok (.getfield 39, 3) := dk_180 0 39 (dk_at dksX19_things_0 9 rfl rfl)
theorem dX19_things_12 : decode cX19_things 12 = .ok (.if_icmp .ge 26, 3) := dk_162 0 26 (dk_at dksX19_things_0 12 rfl rfl)
theorem dX19_things_15 : decode cX19_things 15 = .ok (.iload_n 1, 1) := dk_27 (dk_at dksX19_things_0 15 rfl rfl)
theorem dX19_things_16 : decode cX19_things 16 = .ok (.iconst 1, 1) := dk_4 (dk_at dksX19_things_0 16 rfl rfl)
theorem dX19_things_17 : decode cX19_things 17 = .ok (.aload_n 0, 1) := dk_42 (dk_at dksX19_things_0 17 rfl rfl)
theorem dX19_things_18 : decode cX19_things 18 = .ok (.getfield 10, 3) := dk_180 0 10 (dk_at dksX19_things_0 18 rfl rfl)
theorem dX19_things_21 : decode cX19_things 21 = .ok (.getfield 42, 3) := dk_180 0 42 (dk_at dksX19_things_0 21 rfl rfl)
theorem dX19_things_24 : decode cX19_things 24 = .ok (.iload_n 2, 1) := dk_28 (dk_at dksX19_things_1 0 rfl rfl)
theorem dX19_things_25 : decode cX19_things 25 = .ok (.aaload, 1) := dk_50 (dk_at dksX19_things_1 1 rfl rfl)
theorem dX19_things_26 : decode cX19_things 26 = .ok (.getfield 45, 3) := dk_180 0 45 (dk_at dksX19_things_1 2 rfl rfl)
theorem dX19_things_29 : decode cX19_things 29 = .ok (.ishl, 1) := dk_120 (dk_at dksX19_things_1 5 rfl rfl)
theorem dX19_things_30 : decode cX19_things 30 = .ok (.ior, 1) := dk_128 (dk_at dksX19_things_1 6 rfl rfl)
theorem dX19_things_31 : decode cX19_things 31 = .ok (.istore_n 1, 1) := dk_60 (dk_at dksX19_things_1 7 rfl rfl)
theorem dX19_things_32 : decode cX19_things 32 = .ok (.iinc 2 1, 3) := dk_132 2 1 (dk_at dksX19_things_1 8 rfl rfl)
theorem dX19_things_35 : decode cX19_things 35 = .ok (.goto (-31), 3) := dk_167 255 225 (dk_at dksX19_things_1 11 rfl rfl)
theorem dX19_things_38 : decode cX19_things 38 = .ok (.iload_n 1, 1) := dk_27 (dk_at dksX19_things_1 14 rfl rfl)
theorem dX19_things_39 : decode cX19_things 39 = .ok (.ireturn, 1) := dk_172 (dk_at dksX19_things_1 15 rfl rfl)
theorem q111 : (Jvm.Cond.initialized "LoanNames$Deal") ∈ lw_all := lw_g (lw_at lw_m1 21 rfl) rfl
theorem q167 : (Jvm.Cond.fieldLink "LoanNames$Deal" (42 : Nat) "LoanNames$LeafRow" "leaves" "[LLoanNames$Leaf;") ∈ lw_all := lw_g (lw_at lw_m1 77 rfl) rfl
theorem q175 : (Jvm.Cond.fieldLink "LoanNames$Deal" (39 : Nat) "LoanNames$LeafRow" "many" "I") ∈ lw_all := lw_g (lw_at lw_m1 85 rfl) rfl
theorem q532 : (Jvm.Cond.fieldLink "LoanNames$Deal" (45 : Nat) "LoanNames$Leaf" "thing" "I") ∈ lw_all := lw_g (lw_at lw_m2 202 rfl) rfl
theorem q693 : (Jvm.Cond.instantiable "LoanNames$Deal" (6 : Nat)) ∈ lw_all := lw_g (lw_at lw_m3 123 rfl) rfl
theorem q695 : (Jvm.Cond.instanceMethod ({ cls := "LoanNames$Deal", name := "<init>", desc := "(IILLoanNames$All;II)V" } : Jvm.MethodName)) ∈ lw_all := lw_g (lw_at lw_m3 125 rfl) rfl
theorem q696 : (Jvm.Cond.code ({ cls := "LoanNames$Deal", name := "<init>", desc := "(IILLoanNames$All;II)V" } : Jvm.MethodName) prog_6_method_1_code (6 : Nat) (Option.none : Option Jvm.ClassFile.FieldType)) ∈ lw_all := lw_g (lw_at lw_m3 126 rfl) rfl
theorem q697 : (Jvm.Cond.methodLink "LoanNames$Deal" (1 : Nat) ({ cls := "java/lang/Object", name := "<init>", desc := "()V" } : Jvm.MethodName)) ∈ lw_all := lw_g (lw_at lw_m3 127 rfl) rfl
theorem q698 : (Jvm.Cond.classLink "LoanNames$Deal" (7 : Nat) "LoanNames$LeafRow") ∈ lw_all := lw_g (lw_at lw_m3 128 rfl) rfl
theorem q699 : (Jvm.Cond.methodLinkNest "LoanNames$Deal" (9 : Nat) ({ cls := "LoanNames$LeafRow", name := "<init>", desc := "()V" } : Jvm.MethodName) "LoanNames") ∈ lw_tbl := lw_at lw_m3 129 rfl
theorem q700 : (Jvm.Cond.methodLink "LoanNames$Deal" (33 : Nat) ({ cls := "LoanNames$All", name := "leaves", desc := "(LLoanNames$LeafRow;I)V" } : Jvm.MethodName)) ∈ lw_all := lw_g (lw_at lw_m3 130 rfl) rfl
theorem q729 : (Jvm.Cond.fieldLink "LoanNames$Deal" (16 : Nat) "LoanNames$Deal" "number" "I") ∈ lw_all := lw_g (lw_at lw_m3 159 rfl) rfl
theorem q731 : (Jvm.Cond.fieldLink "LoanNames$Deal" (20 : Nat) "LoanNames$Deal" "signed" "I") ∈ lw_all := lw_g (lw_at lw_m3 161 rfl) rfl
theorem q733 : (Jvm.Cond.fieldLink "LoanNames$Deal" (27 : Nat) "LoanNames$Deal" "choices" "I") ∈ lw_all := lw_g (lw_at lw_m3 163 rfl) rfl
theorem q736 : (Jvm.Cond.fieldLink "LoanNames$Deal" (30 : Nat) "LoanNames$Deal" "events" "I") ∈ lw_all := lw_g (lw_at lw_m3 166 rfl) rfl
theorem q739 : (Jvm.Cond.fieldLink "LoanNames$Deal" (23 : Nat) "LoanNames$Deal" "all" "LLoanNames$All;") ∈ lw_all := lw_g (lw_at lw_m3 169 rfl) rfl
theorem q742 : (Jvm.Cond.fieldLink "LoanNames$Deal" (10 : Nat) "LoanNames$Deal" "row" "LLoanNames$LeafRow;") ∈ lw_all := lw_g (lw_at lw_m3 172 rfl) rfl
theorem q745 : (Jvm.Cond.laysFinal "LoanNames$Deal" "LoanNames$Deal" "number" "I") ∈ lw_all := lw_g (lw_at lw_m3 175 rfl) rfl
theorem q746 : (Jvm.Cond.soleField "LoanNames$Deal" "number") ∈ lw_all := lw_g (lw_at lw_m3 176 rfl) rfl
theorem q747 : (Jvm.Cond.laysFinal "LoanNames$Deal" "LoanNames$Deal" "signed" "I") ∈ lw_all := lw_g (lw_at lw_m3 177 rfl) rfl
theorem q748 : (Jvm.Cond.soleField "LoanNames$Deal" "signed") ∈ lw_all := lw_g (lw_at lw_m3 178 rfl) rfl
theorem q749 : (Jvm.Cond.laysFinal "LoanNames$Deal" "LoanNames$Deal" "choices" "I") ∈ lw_all := lw_g (lw_at lw_m3 179 rfl) rfl
theorem q750 : (Jvm.Cond.soleField "LoanNames$Deal" "choices") ∈ lw_all := lw_g (lw_at lw_m3 180 rfl) rfl
theorem q751 : (Jvm.Cond.laysFinal "LoanNames$Deal" "LoanNames$Deal" "events" "I") ∈ lw_all := lw_g (lw_at lw_m3 181 rfl) rfl
theorem q752 : (Jvm.Cond.soleField "LoanNames$Deal" "events") ∈ lw_all := lw_g (lw_at lw_m3 182 rfl) rfl
theorem q753 : (Jvm.Cond.laysFinal "LoanNames$Deal" "LoanNames$Deal" "all" "LLoanNames$All;") ∈ lw_all := lw_g (lw_at lw_m3 183 rfl) rfl
theorem q754 : (Jvm.Cond.soleField "LoanNames$Deal" "all") ∈ lw_all := lw_g (lw_at lw_m3 184 rfl) rfl
theorem q755 : (Jvm.Cond.laysFinal "LoanNames$Deal" "LoanNames$Deal" "row" "LLoanNames$LeafRow;") ∈ lw_all := lw_g (lw_at lw_m3 185 rfl) rfl
theorem q756 : (Jvm.Cond.soleField "LoanNames$Deal" "row") ∈ lw_all := lw_g (lw_at lw_m3 186 rfl) rfl
theorem q757 : (Jvm.Cond.superclass "LoanNames$Deal" "java/lang/Object") ∈ lw_all := lw_g (lw_at lw_m3 187 rfl) rfl
theorem q885 : (Jvm.Cond.instanceMethod ({ cls := "LoanNames$Deal", name := "things", desc := "()I" } : Jvm.MethodName)) ∈ lw_all := lw_g (lw_at lw_m4 75 rfl) rfl
theorem q886 : (Jvm.Cond.selects "LoanNames$Deal" ({ cls := "LoanNames$Deal", name := "things", desc := "()I" } : Jvm.MethodName) ({ cls := "LoanNames$Deal", name := "things", desc := "()I" } : Jvm.MethodName)) ∈ lw_all := lw_g (lw_at lw_m4 76 rfl) rfl
theorem q887 : (Jvm.Cond.code ({ cls := "LoanNames$Deal", name := "things", desc := "()I" } : Jvm.MethodName) prog_6_method_2_code (3 : Nat) (Option.some Jvm.ClassFile.FieldType.int)) ∈ lw_all := lw_g (lw_at lw_m4 77 rfl) rfl
theorem in_X19 : ∀ w ∈ wsX190, w ∈ lw_all := lw_in wsX190 [745, 747, 749, 751, 753, 755] (by decide +kernel) (by decide +kernel)
/-! LoanNames$LawReader -/
set_option maxRecDepth 100000
def RX20 : String := "LoanNames$LawReader"
def TX20 : u_T := fun k => match k with
  | 0 => ("LoanNames$Reader", "text", "[B", true)
  | 1 => ("LoanNames$Reader", "size", "I", true)
  | 2 => ("LoanNames$Reader", "at", "I", false)
  | 3 => ("LoanNames$Reader", "end", "I", false)
  | 4 => ("LoanNames$Reader", "kind", "I", false)
  | 5 => ("LoanNames$Reader", "word", "J", false)
  | 6 => ("LoanNames$Reader", "wrong", "Z", false)
  | _ => ("LoanNames$LawReader", "law", "LLoanNames$Law;", true)
def tyX20 : Nat → FieldType := fun k => match k with
  | 0 => .array .byte
  | 1 => .int
  | 2 => .int
  | 3 => .int
  | 4 => .int
  | 5 => .long
  | 6 => .boolean
  | _ => .object "LoanNames$Law"
abbrev wsX200 : List Cond := u_ws RX20 TX20 8
theorem nmX20 : ∀ a, a < 8 → ∀ b, b < 8 → a ≠ b → (TX20 a).2.1 ≠ (TX20 b).2.1 := by decide +kernel
theorem tyX20_ok : ∀ k, k < 8 → parseFieldDescriptor (TX20 k).2.2.1 = some (tyX20 k) := by decide +kernel
abbrev cX20_init : ByteArray := prog_12_method_1_code
def yX20_init : MethodName := ⟨RX20, "<init>", "([BI)V"⟩
def dkwX20_init_0 : List UInt8 := [42, 43, 28, 183, 0, 3, 42, 187, 0, 9, 89, 183, 0, 11, 181, 0, 14, 177]
abbrev dktX20_init_0 : List UInt8 := dkwX20_init_0 ++ []
theorem dksX20_init_0 : cX20_init.data.toList.drop 0 = dktX20_init_0 := by decide +kernel
theorem dX20_init_0 : decode cX20_init 0 = .ok (.aload_n 0, 1) := dk_42 (dk_at dksX20_init_0 0 rfl rfl)
theorem dX20_init_1 : decode cX20_init 1 = .ok (.aload_n 1, 1) := dk_43 (dk_at dksX20_init_0 1 rfl rfl)
theorem dX20_init_2 : decode cX20_init 2 = .ok (.iload_n 2, 1) := dk_28 (dk_at dksX20_init_0 2 rfl rfl)
theorem dX20_init_3 : decode cX20_init 3 = .ok (.invokespecial 3, 3) := dk_183 0 3 (dk_at dksX20_init_0 3 rfl rfl)
theorem dX20_init_6 : decode cX20_init 6 = .ok (.aload_n 0, 1) := dk_42 (dk_at dksX20_init_0 6 rfl rfl)
theorem dX20_init_7 : decode cX20_init 7 = .ok (.new 9, 3) := dk_187 0 9 (dk_at dksX20_init_0 7 rfl rfl)
theorem dX20_init_10 : decode cX20_init 10 = .ok (.dup, 1) := dk_89 (dk_at dksX20_init_0 10 rfl rfl)
theorem dX20_init_11 : decode cX20_init 11 = .ok (.invokespecial 11, 3) := dk_183 0 11 (dk_at dksX20_init_0 11 rfl rfl)
theorem dX20_init_14 : decode cX20_init 14 = .ok (.putfield 14, 3) := dk_181 0 14 (dk_at dksX20_init_0 14 rfl rfl)
theorem dX20_init_17 : decode cX20_init 17 = .ok (.return_, 1) := dk_177 (dk_at dksX20_init_0 17 rfl rfl)
abbrev cX20_reads : ByteArray := prog_12_method_2_code
def yX20_reads : MethodName := ⟨RX20, "reads", "(II)Z"⟩
def dkwX20_reads_3 : List UInt8 := [42, 180, 0, 20, 154, 0, 18, 42, 180, 0, 14, 180, 0, 28, 27, 161, 0, 7, 4, 167, 0, 4, 3, 172]
abbrev dktX20_reads_3 : List UInt8 := dkwX20_reads_3 ++ []
def dkwX20_reads_2 : List UInt8 := [180, 0, 28, 42, 182, 0, 35, 83, 42, 180, 0, 14, 89, 180, 0, 28, 4, 96, 181, 0, 28, 167, 255, 191]
abbrev dktX20_reads_2 : List UInt8 := dkwX20_reads_2 ++ dktX20_reads_3
def dkwX20_reads_1 : List UInt8 := [160, 0, 11, 42, 4, 181, 0, 20, 167, 255, 226, 42, 180, 0, 14, 180, 0, 31, 42, 180, 0, 14]
abbrev dktX20_reads_1 : List UInt8 := dkwX20_reads_1 ++ dktX20_reads_2
def dkwX20_reads_0 : List UInt8 := [42, 180, 0, 20, 154, 0, 64, 42, 180, 0, 24, 153, 0, 57, 42, 180, 0, 14, 180, 0, 28, 28]
abbrev dktX20_reads_0 : List UInt8 := dkwX20_reads_0 ++ dktX20_reads_1
theorem dksX20_reads_0 : cX20_reads.data.toList.drop 0 = dktX20_reads_0 := by decide +kernel
theorem dksX20_reads_1 : cX20_reads.data.toList.drop 22 = dktX20_reads_1 := dk_seg dksX20_reads_0 22 rfl rfl
theorem dksX20_reads_2 : cX20_reads.data.toList.drop 44 = dktX20_reads_2 := dk_seg dksX20_reads_1 22 rfl rfl
theorem dksX20_reads_3 : cX20_reads.data.toList.drop 68 = dktX20_reads_3 := dk_seg dksX20_reads_2 24 rfl rfl
theorem dX20_reads_0 : decode cX20_reads 0 = .ok (.aload_n 0, 1) := dk_42 (dk_at dksX20_reads_0 0 rfl rfl)
theorem dX20_reads_1 : decode cX20_reads 1 = .ok (.getfield 20, 3) := dk_180 0 20 (dk_at dksX20_reads_0 1 rfl rfl)
theorem dX20_reads_4 : decode cX20_reads 4 = .ok (.ifCond .ne 64, 3) := dk_154 0 64 (dk_at dksX20_reads_0 4 rfl rfl)
theorem dX20_reads_7 : decode cX20_reads 7 = .ok (.aload_n 0, 1) := dk_42 (dk_at dksX20_reads_0 7 rfl rfl)
theorem dX20_reads_8 : decode cX20_reads 8 = .ok (.getfield 24, 3) := dk_180 0 24 (dk_at dksX20_reads_0 8 rfl rfl)
theorem dX20_reads_11 : decode cX20_reads 11 = .ok (.ifCond .eq 57, 3) := dk_153 0 57 (dk_at dksX20_reads_0 11 rfl rfl)
theorem dX20_reads_14 : decode cX20_reads 14 = .ok (.aload_n 0, 1) := dk_42 (dk_at dksX20_reads_0 14 rfl rfl)
theorem dX20_reads_15 : decode cX20_reads 15 = .ok (.getfield 14, 3) := dk_180 0 14 (dk_at dksX20_reads_0 15 rfl rfl)
theorem dX20_reads_18 : decode cX20_reads 18 = .ok (.getfield 28, 3) := dk_180 0 28 (dk_at dksX20_reads_0 18 rfl rfl)
theorem dX20_reads_21 : decode cX20_reads 21 = .ok (.iload_n 2, 1) := dk_28 (dk_at dksX20_reads_0 21 rfl rfl)
theorem dX20_reads_22 : decode cX20_reads 22 = .ok (.if_icmp .ne 11, 3) := dk_160 0 11 (dk_at dksX20_reads_1 0 rfl rfl)
theorem dX20_reads_25 : decode cX20_reads 25 = .ok (.aload_n 0, 1) := dk_42 (dk_at dksX20_reads_1 3 rfl rfl)
theorem dX20_reads_26 : decode cX20_reads 26 = .ok (.iconst 1, 1) := dk_4 (dk_at dksX20_reads_1 4 rfl rfl)
theorem dX20_reads_27 : decode cX20_reads 27 = .ok (.putfield 20, 3) := dk_181 0 20 (dk_at dksX20_reads_1 5 rfl rfl)
theorem dX20_reads_30 : decode cX20_reads 30 = .ok (.goto (-30), 3) := dk_167 255 226 (dk_at dksX20_reads_1 8 rfl rfl)
theorem dX20_reads_33 : decode cX20_reads 33 = .ok (.aload_n 0, 1) := dk_42 (dk_at dksX20_reads_1 11 rfl rfl)
theorem dX20_reads_34 : decode cX20_reads 34 = .ok (.getfield 14, 3) := dk_180 0 14 (dk_at dksX20_reads_1 12 rfl rfl)
theorem dX20_reads_37 : decode cX20_reads 37 = .ok (.getfield 31, 3) := dk_180 0 31 (dk_at dksX20_reads_1 15 rfl rfl)
theorem dX20_reads_40 : decode cX20_reads 40 = .ok (.aload_n 0, 1) := dk_42 (dk_at dksX20_reads_1 18 rfl rfl)
theorem dX20_reads_41 : decode cX20_reads 41 = .ok (.getfield 14, 3) := dk_180 0 14 (dk_at dksX20_reads_1 19 rfl rfl)
theorem dX20_reads_44 : decode cX20_reads 44 = .ok (.getfield 28, 3) := dk_180 0 28 (dk_at dksX20_reads_2 0 rfl rfl)
theorem dX20_reads_47 : decode cX20_reads 47 = .ok (.aload_n 0, 1) := dk_42 (dk_at dksX20_reads_2 3 rfl rfl)
theorem dX20_reads_48 : decode cX20_reads 48 = .ok (.invokevirtual 35, 3) := dk_182 0 35 (dk_at dksX20_reads_2 4 rfl rfl)
theorem dX20_reads_51 : decode cX20_reads 51 = .ok (.aastore, 1) := dk_83 (dk_at dksX20_reads_2 7 rfl rfl)
theorem dX20_reads_52 : decode cX20_reads 52 = .ok (.aload_n 0, 1) := dk_42 (dk_at dksX20_reads_2 8 rfl rfl)
theorem dX20_reads_53 : decode cX20_reads 53 = .ok (.getfield 14, 3) := dk_180 0 14 (dk_at dksX20_reads_2 9 rfl rfl)
theorem dX20_reads_56 : decode cX20_reads 56 = .ok (.dup, 1) := dk_89 (dk_at dksX20_reads_2 12 rfl rfl)
theorem dX20_reads_57 : decode cX20_reads 57 = .ok (.getfield 28, 3) := dk_180 0 28 (dk_at dksX20_reads_2 13 rfl rfl)
theorem dX20_reads_60 : decode cX20_reads 60 = .ok (.iconst 1, 1) := dk_4 (dk_at dksX20_reads_2 16 rfl rfl)
theorem dX20_reads_61 : decode cX20_reads 61 = .ok (.iadd, 1) := dk_96 (dk_at dksX20_reads_2 17 rfl rfl)
theorem dX20_reads_62 : decode cX20_reads 62 = .ok (.putfield 28, 3) := dk_181 0 28 (dk_at dksX20_reads_2 18 rfl rfl)
theorem dX20_reads_65 : decode cX20_reads 65 = .ok (.goto (-65), 3) := dk_167 255 191 (dk_at dksX20_reads_2 21 rfl rfl)
theorem dX20_reads_68 : decode cX20_reads 68 = .ok (.aload_n 0, 1) := dk_42 (dk_at dksX20_reads_3 0 rfl rfl)
theorem dX20_reads_69 : decode cX20_reads 69 = .ok (.getfield 20, 3) := dk_180 0 20 (dk_at dksX20_reads_3 1 rfl rfl)
theorem dX20_reads_72 : decode cX20_reads 72 = .ok (.ifCond .ne 18, 3) := dk_154 0 18 (dk_at dksX20_reads_3 4 rfl rfl)
theorem dX20_reads_75 : decode cX20_reads 75 = .ok (.aload_n 0, 1) := dk_42 (dk_at dksX20_reads_3 7 rfl rfl)
theorem dX20_reads_76 : decode cX20_reads 76 = .ok (.getfield 14, 3) := dk_180 0 14 (dk_at dksX20_reads_3 8 rfl rfl)
theorem dX20_reads_79 : decode cX20_reads 79 = .ok (.getfield 28, 3) := dk_180 0 28 (dk_at dksX20_reads_3 11 rfl rfl)
theorem dX20_reads_82 : decode cX20_reads 82 = .ok (.iload_n 1, 1) := dk_27 (dk_at dksX20_reads_3 14 rfl rfl)
theorem dX20_reads_83 : decode cX20_reads 83 = .ok (.if_icmp .lt 7, 3) := dk_161 0 7 (dk_at dksX20_reads_3 15 rfl rfl)
theorem dX20_reads_86 : decode cX20_reads 86 = .ok (.iconst 1, 1) := dk_4 (dk_at dksX20_reads_3 18 rfl rfl)
theorem dX20_reads_87 : decode cX20_reads 87 = .ok (.goto 4, 3) := dk_167 0 4 (dk_at dksX20_reads_3 19 rfl rfl)
theorem dX20_reads_90 : decode cX20_reads 90 = .ok (.iconst 0, 1) := dk_3 (dk_at dksX20_reads_3 22 rfl rfl)
theorem dX20_reads_91 : decode cX20_reads 91 = .ok (.ireturn, 1) := dk_172 (dk_at dksX20_reads_3 23 rfl rfl)
abbrev cX20_rule : ByteArray := prog_12_method_3_code
def yX20_rule : MethodName := ⟨RX20, "rule", "()LLoanNames$Rule;"⟩
def dkwX20_rule_10 : List UInt8 := [182, 0, 43, 187, 0, 95, 89, 27, 28, 29, 21, 4, 21, 6, 21, 7, 21, 8, 21, 5, 183, 0, 97, 176]
abbrev dktX20_rule_10 : List UInt8 := dkwX20_rule_10 ++ []
def dkwX20_rule_9 : List UInt8 := [178, 0, 86, 182, 0, 58, 153, 0, 13, 42, 3, 17, 39, 15, 182, 0, 89, 54, 5, 42, 6, 20, 0, 93]
abbrev dktX20_rule_9 : List UInt8 := dkwX20_rule_9 ++ dktX20_rule_10
def dkwX20_rule_8 : List UInt8 := [178, 0, 77, 148, 154, 0, 7, 4, 167, 0, 4, 3, 54, 8, 42, 182, 0, 83, 167, 255, 150, 42, 4]
abbrev dktX20_rule_8 : List UInt8 := dkwX20_rule_8 ++ dktX20_rule_9
def dkwX20_rule_7 : List UInt8 := [178, 0, 74, 148, 154, 0, 7, 4, 167, 0, 4, 3, 54, 7, 21, 8, 154, 0, 14, 42, 180, 0, 80]
abbrev dktX20_rule_7 : List UInt8 := dkwX20_rule_7 ++ dktX20_rule_8
def dkwX20_rule_6 : List UInt8 := [178, 0, 68, 148, 154, 0, 7, 4, 167, 0, 4, 3, 54, 6, 21, 7, 154, 0, 14, 42, 180, 0, 80]
abbrev dktX20_rule_6 : List UInt8 := dkwX20_rule_6 ++ dktX20_rule_7
def dkwX20_rule_5 : List UInt8 := [154, 0, 14, 42, 4, 178, 0, 77, 182, 0, 71, 153, 0, 79, 21, 6, 154, 0, 14, 42, 180, 0, 80]
abbrev dktX20_rule_5 : List UInt8 := dkwX20_rule_5 ++ dktX20_rule_6
def dkwX20_rule_4 : List UInt8 := [182, 0, 51, 54, 4, 42, 4, 178, 0, 68, 182, 0, 71, 154, 0, 25, 42, 4, 178, 0, 74, 182, 0, 71]
abbrev dktX20_rule_4 : List UInt8 := dkwX20_rule_4 ++ dktX20_rule_5
def dkwX20_rule_3 : List UInt8 := [178, 0, 47, 2, 182, 0, 51, 62, 42, 4, 178, 0, 55, 182, 0, 58, 153, 0, 13, 42, 178, 0, 62, 2]
abbrev dktX20_rule_3 : List UInt8 := dkwX20_rule_3 ++ dktX20_rule_4
def dkwX20_rule_2 : List UInt8 := [2, 54, 5, 3, 54, 6, 3, 54, 7, 3, 54, 8, 42, 4, 178, 0, 65, 182, 0, 58, 153, 0, 163, 42]
abbrev dktX20_rule_2 : List UInt8 := dkwX20_rule_2 ++ dktX20_rule_3
def dkwX20_rule_1 : List UInt8 := [182, 0, 58, 153, 0, 14, 42, 178, 0, 62, 2, 182, 0, 51, 167, 0, 4, 2, 61, 2, 62, 2, 54, 4]
abbrev dktX20_rule_1 : List UInt8 := dkwX20_rule_1 ++ dktX20_rule_2
def dkwX20_rule_0 : List UInt8 := [42, 4, 178, 0, 39, 182, 0, 43, 42, 178, 0, 47, 2, 182, 0, 51, 60, 42, 4, 178, 0, 55]
abbrev dktX20_rule_0 : List UInt8 := dkwX20_rule_0 ++ dktX20_rule_1
theorem dksX20_rule_0 : cX20_rule.data.toList.drop 0 = dktX20_rule_0 := by decide +kernel
theorem dksX20_rule_1 : cX20_rule.data.toList.drop 22 = dktX20_rule_1 := dk_seg dksX20_rule_0 22 rfl rfl
theorem dksX20_rule_2 : cX20_rule.data.toList.drop 46 = dktX20_rule_2 := dk_seg dksX20_rule_1 24 rfl rfl
theorem dksX20_rule_3 : cX20_rule.data.toList.drop 70 = dktX20_rule_3 := dk_seg dksX20_rule_2 24 rfl rfl
theorem dksX20_rule_4 : cX20_rule.data.toList.drop 94 = dktX20_rule_4 := dk_seg dksX20_rule_3 24 rfl rfl
theorem dksX20_rule_5 : cX20_rule.data.toList.drop 118 = dktX20_rule_5 := dk_seg dksX20_rule_4 24 rfl rfl
theorem dksX20_rule_6 : cX20_rule.data.toList.drop 141 = dktX20_rule_6 := dk_seg dksX20_rule_5 23 rfl rfl
theorem dksX20_rule_7 : cX20_rule.data.toList.drop 164 = dktX20_rule_7 := dk_seg dksX20_rule_6 23 rfl rfl
theorem dksX20_rule_8 : cX20_rule.data.toList.drop 187 = dktX20_rule_8 := dk_seg dksX20_rule_7 23 rfl rfl
theorem dksX20_rule_9 : cX20_rule.data.toList.drop 210 = dktX20_rule_9 := dk_seg dksX20_rule_8 23 rfl rfl
theorem dksX20_rule_10 : cX20_rule.data.toList.drop 234 = dktX20_rule_10 := dk_seg dksX20_rule_9 24 rfl rfl
theorem dX20_rule_0 : decode cX20_rule 0 = .ok (.aload_n 0, 1) := dk_42 (dk_at dksX20_rule_0 0 rfl rfl)
theorem dX20_rule_1 : decode cX20_rule 1 = .ok (.iconst 1, 1) := dk_4 (dk_at dksX20_rule_0 1 rfl rfl)
theorem dX20_rule_2 : decode cX20_rule 2 = .ok (.getstatic 39, 3) := dk_178 0 39 (dk_at dksX20_rule_0 2 rfl rfl)
theorem dX20_rule_5 : decode cX20_rule 5 = .ok (.invokevirtual 43, 3) := dk_182 0 43 (dk_at dksX20_rule_0 5 rfl rfl)
theorem dX20_rule_8 : decode cX20_rule 8 = .ok (.aload_n 0, 1) := dk_42 (dk_at dksX20_rule_0 8 rfl rfl)
theorem dX20_rule_9 : decode cX20_rule 9 = .ok (.getstatic 47, 3) := dk_178 0 47 (dk_at dksX20_rule_0 9 rfl rfl)
theorem dX20_rule_12 : decode cX20_rule 12 = .ok (.iconst (-1), 1) := dk_2 (dk_at dksX20_rule_0 12 rfl rfl)
theorem dX20_rule_13 : decode cX20_rule 13 = .ok (.invokevirtual 51, 3) := dk_182 0 51 (dk_at dksX20_rule_0 13 rfl rfl)
theorem dX20_rule_16 : decode cX20_rule 16 = .ok (.istore_n 1, 1) := dk_60 (dk_at dksX20_rule_0 16 rfl rfl)
theorem dX20_rule_17 : decode cX20_rule 17 = .ok (.aload_n 0, 1) := dk_42 (dk_at dksX20_rule_0 17 rfl rfl)
theorem dX20_rule_18 : decode cX20_rule 18 = .ok (.iconst 1, 1) := dk_4 (dk_at dksX20_rule_0 18 rfl rfl)
theorem dX20_rule_19 : decode cX20_rule 19 = .ok (.getstatic 55, 3) := dk_178 0 55 (dk_at dksX20_rule_0 19 rfl rfl)
theorem dX20_rule_22 : decode cX20_rule 22 = .ok (.invokevirtual 58, 3) := dk_182 0 58 (dk_at dksX20_rule_1 0 rfl rfl)
theorem dX20_rule_25 : decode cX20_rule 25 = .ok (.ifCond .eq 14, 3) := dk_153 0 14 (dk_at dksX20_rule_1 3 rfl rfl)
theorem dX20_rule_28 : decode cX20_rule 28 = .ok (.aload_n 0, 1) := dk_42 (dk_at dksX20_rule_1 6 rfl rfl)
theorem dX20_rule_29 : decode cX20_rule 29 = .ok (.getstatic 62, 3) := dk_178 0 62 (dk_at dksX20_rule_1 7 rfl rfl)
theorem dX20_rule_32 : decode cX20_rule 32 = .ok (.iconst (-1), 1) := dk_2 (dk_at dksX20_rule_1 10 rfl rfl)
theorem dX20_rule_33 : decode cX20_rule 33 = .ok (.invokevirtual 51, 3) := dk_182 0 51 (dk_at dksX20_rule_1 11 rfl rfl)
theorem dX20_rule_36 : decode cX20_rule 36 = .ok (.goto 4, 3) := dk_167 0 4 (dk_at dksX20_rule_1 14 rfl rfl)
theorem dX20_rule_39 : decode cX20_rule 39 = .ok (.iconst (-1), 1) := dk_2 (dk_at dksX20_rule_1 17 rfl rfl)
theorem dX20_rule_40 : decode cX20_rule 40 = .ok (.istore_n 2, 1) := dk_61 (dk_at dksX20_rule_1 18 rfl rfl)
theorem dX20_rule_41 : decode cX20_rule 41 = .ok (.iconst (-1), 1) := dk_2 (dk_at dksX20_rule_1 19 rfl rfl)
theorem dX20_rule_42 : decode cX20_rule 42 = .ok (.istore_n 3, 1) := dk_62 (dk_at dksX20_rule_1 20 rfl rfl)
theorem dX20_rule_43 : decode cX20_rule 43 = .ok (.iconst (-1), 1) := dk_2 (dk_at dksX20_rule_1 21 rfl rfl)
theorem dX20_rule_44 : decode cX20_rule 44 = .ok (.istore 4, 2) := dk_54 4 (dk_at dksX20_rule_1 22 rfl rfl)
theorem dX20_rule_46 : decode cX20_rule 46 = .ok (.iconst (-1), 1) := dk_2 (dk_at dksX20_rule_2 0 rfl rfl)
theorem dX20_rule_47 : decode cX20_rule 47 = .ok (.istore 5, 2) := dk_54 5 (dk_at dksX20_rule_2 1 rfl rfl)
theorem dX20_rule_49 : decode cX20_rule 49 = .ok (.iconst 0, 1) := dk_3 (dk_at dksX20_rule_2 3 rfl rfl)
theorem dX20_rule_50 : decode cX20_rule 50 = .ok (.istore 6, 2) := dk_54 6 (dk_at dksX20_rule_2 4 rfl rfl)
theorem dX20_rule_52 : decode cX20_rule 52 = .ok (.iconst 0, 1) := dk_3 (dk_at dksX20_rule_2 6 rfl rfl)
theorem dX20_rule_53 : decode cX20_rule 53 = .ok (.istore 7, 2) := dk_54 7 (dk_at dksX20_rule_2 7 rfl rfl)
theorem dX20_rule_55 : decode cX20_rule 55 = .ok (.iconst 0, 1) := dk_3 (dk_at dksX20_rule_2 9 rfl rfl)
theorem dX20_rule_56 : decode cX20_rule 56 = .ok (.istore 8, 2) := dk_54 8 (dk_at dksX20_rule_2 10 rfl rfl)
theorem dX20_rule_58 : decode cX20_rule 58 = .ok (.aload_n 0, 1) := dk_42 (dk_at dksX20_rule_2 12 rfl rfl)
theorem dX20_rule_59 : decode cX20_rule 59 = .ok (.iconst 1, 1) := dk_4 (dk_at dksX20_rule_2 13 rfl rfl)
theorem dX20_rule_60 : decode cX20_rule 60 = .ok (.getstatic 65, 3) := dk_178 0 65 (dk_at dksX20_rule_2 14 rfl rfl)
theorem dX20_rule_63 : decode cX20_rule 63 = .ok (.invokevirtual 58, 3) := dk_182 0 58 (dk_at dksX20_rule_2 17 rfl rfl)
theorem dX20_rule_66 : decode cX20_rule 66 = .ok (.ifCond .eq 163, 3) := dk_153 0 163 (dk_at dksX20_rule_2 20 rfl rfl)
theorem dX20_rule_69 : decode cX20_rule 69 = .ok (.aload_n 0, 1) := dk_42 (dk_at dksX20_rule_2 23 rfl rfl)
theorem dX20_rule_70 : decode cX20_rule 70 = .ok (.getstatic 47, 3) := dk_178 0 47 (dk_at dksX20_rule_3 0 rfl rfl)
theorem dX20_rule_73 : decode cX20_rule 73 = .ok (.iconst (-1), 1) := dk_2 (dk_at dksX20_rule_3 3 rfl rfl)
theorem dX20_rule_74 : decode cX20_rule 74 = .ok (.invokevirtual 51, 3) := dk_182 0 51 (dk_at dksX20_rule_3 4 rfl rfl)
theorem dX20_rule_77 : decode cX20_rule 77 = .ok (.istore_n 3, 1) := dk_62 (dk_at dksX20_rule_3 7 rfl rfl)
theorem dX20_rule_78 : decode cX20_rule 78 = .ok (.aload_n 0, 1) := dk_42 (dk_at dksX20_rule_3 8 rfl rfl)
theorem dX20_rule_79 : decode cX20_rule 79 = .ok (.iconst 1, 1) := dk_4 (dk_at dksX20_rule_3 9 rfl rfl)
theorem dX20_rule_80 : decode cX20_rule 80 = .ok (.getstatic 55, 3) := dk_178 0 55 (dk_at dksX20_rule_3 10 rfl rfl)
theorem dX20_rule_83 : decode cX20_rule 83 = .ok (.invokevirtual 58, 3) := dk_182 0 58 (dk_at dksX20_rule_3 13 rfl rfl)
theorem dX20_rule_86 : decode cX20_rule 86 = .ok (.ifCond .eq 13, 3) := dk_153 0 13 (dk_at dksX20_rule_3 16 rfl rfl)
theorem dX20_rule_89 : decode cX20_rule 89 = .ok (.aload_n 0, 1) := dk_42 (dk_at dksX20_rule_3 19 rfl rfl)
theorem dX20_rule_90 : decode cX20_rule 90 = .ok (.getstatic 62, 3) := dk_178 0 62 (dk_at dksX20_rule_3 20 rfl rfl)
theorem dX20_rule_93 : decode cX20_rule 93 = .ok (.iconst (-1), 1) := dk_2 (dk_at dksX20_rule_3 23 rfl rfl)
theorem dX20_rule_94 : decode cX20_rule 94 = .ok (.invokevirtual 51, 3) := dk_182 0 51 (dk_at dksX20_rule_4 0 rfl rfl)
theorem dX20_rule_97 : decode cX20_rule 97 = .ok (.istore 4, 2) := dk_54 4 (dk_at dksX20_rule_4 3 rfl rfl)
theorem dX20_rule_99 : decode cX20_rule 99 = .ok (.aload_n 0, 1) := dk_42 (dk_at dksX20_rule_4 5 rfl rfl)
theorem dX20_rule_100 : decode cX20_rule 100 = .ok (.iconst 1, 1) := dk_4 (dk_at dksX20_rule_4 6 rfl rfl)
theorem dX20_rule_101 : decode cX20_rule 101 = .ok (.getstatic 68, 3) := dk_178 0 68 (dk_at dksX20_rule_4 7 rfl rfl)
theorem dX20_rule_104 : decode cX20_rule 104 = .ok (.invokevirtual 71, 3) := dk_182 0 71 (dk_at dksX20_rule_4 10 rfl rfl)
theorem dX20_rule_107 : decode cX20_rule 107 = .ok (.ifCond .ne 25, 3) := dk_154 0 25 (dk_at dksX20_rule_4 13 rfl rfl)
theorem dX20_rule_110 : decode cX20_rule 110 = .ok (.aload_n 0, 1) := dk_42 (dk_at dksX20_rule_4 16 rfl rfl)
theorem dX20_rule_111 : decode cX20_rule 111 = .ok (.iconst 1, 1) := dk_4 (dk_at dksX20_rule_4 17 rfl rfl)
theorem dX20_rule_112 : decode cX20_rule 112 = .ok (.getstatic 74, 3) := dk_178 0 74 (dk_at dksX20_rule_4 18 rfl rfl)
theorem dX20_rule_115 : decode cX20_rule 115 = .ok (.invokevirtual 71, 3) := dk_182 0 71 (dk_at dksX20_rule_4 21 rfl rfl)
theorem dX20_rule_118 : decode cX20_rule 118 = .ok (.ifCond .ne 14, 3) := dk_154 0 14 (dk_at dksX20_rule_5 0 rfl rfl)
theorem dX20_rule_121 : decode cX20_rule 121 = .ok (.aload_n 0, 1) := dk_42 (dk_at dksX20_rule_5 3 rfl rfl)
theorem dX20_rule_122 : decode cX20_rule 122 = .ok (.iconst 1, 1) := dk_4 (dk_at dksX20_rule_5 4 rfl rfl)
theorem dX20_rule_123 : decode cX20_rule 123 = .ok (.getstatic 77, 3) := dk_178 0 77 (dk_at dksX20_rule_5 5 rfl rfl)
theorem dX20_rule_126 : decode cX20_rule 126 = .ok (.invokevirtual 71, 3) := dk_182 0 71 (dk_at dksX20_rule_5 8 rfl rfl)
theorem dX20_rule_129 : decode cX20_rule 129 = .ok (.ifCond .eq 79, 3) := dk_153 0 79 (dk_at dksX20_rule_5 11 rfl rfl)
theorem dX20_rule_132 : decode cX20_rule 132 = .ok (.iload 6, 2) := dk_21 6 (dk_at dksX20_rule_5 14 rfl rfl)
theorem dX20_rule_134 : decode cX20_rule 134 = .ok (.ifCond .ne 14, 3) := dk_154 0 14 (dk_at dksX20_rule_5 16 rfl rfl)
theorem dX20_rule_137 : decode cX20_rule 137 = .ok (.aload_n 0, 1) := dk_42 (dk_at dksX20_rule_5 19 rfl rfl)
theorem dX20_rule_138 : decode cX20_rule 138 = .ok (.getfield 80, 3) := dk_180 0 80 (dk_at dksX20_rule_5 20 rfl rfl)
theorem dX20_rule_141 : decode cX20_rule 141 = .ok (.getstatic 68, 3) := dk_178 0 68 (dk_at dksX20_rule_6 0 rfl rfl)
theorem dX20_rule_144 : decode cX20_rule 144 = .ok (.lcmp, 1) := dk_148 (dk_at dksX20_rule_6 3 rfl rfl)
theorem dX20_rule_145 : decode cX20_rule 145 = .ok (.ifCond .ne 7, 3) := dk_154 0 7 (dk_at dksX20_rule_6 4 rfl rfl)
theorem dX20_rule_148 : decode cX20_rule 148 = .ok (.iconst 1, 1) := dk_4 (dk_at dksX20_rule_6 7 rfl rfl)
theorem dX20_rule_149 : decode cX20_rule 149 = .ok (.goto 4, 3) := dk_167 0 4 (dk_at dksX20_rule_6 8 rfl rfl)
theorem dX20_rule_152 : decode cX20_rule 152 = .ok (.iconst 0, 1) := dk_3 (dk_at dksX20_rule_6 11 rfl rfl)
theorem dX20_rule_153 : decode cX20_rule 153 = .ok (.istore 6, 2) := dk_54 6 (dk_at dksX20_rule_6 12 rfl rfl)
theorem dX20_rule_155 : decode cX20_rule 155 = .ok (.iload 7, 2) := dk_21 7 (dk_at dksX20_rule_6 14 rfl rfl)
theorem dX20_rule_157 : decode cX20_rule 157 = .ok (.ifCond .ne 14, 3) := dk_154 0 14 (dk_at dksX20_rule_6 16 rfl rfl)
theorem dX20_rule_160 : decode cX20_rule 160 = .ok (.aload_n 0, 1) := dk_42 (dk_at dksX20_rule_6 19 rfl rfl)
theorem dX20_rule_161 : decode cX20_rule 161 = .ok (.getfield 80, 3) := dk_180 0 80 (dk_at dksX20_rule_6 20 rfl rfl)
theorem dX20_rule_164 : decode cX20_rule 164 = .ok (.getstatic 74, 3) := dk_178 0 74 (dk_at dksX20_rule_7 0 rfl rfl)
theorem dX20_rule_167 : decode cX20_rule 167 = .ok (.lcmp, 1) := dk_148 (dk_at dksX20_rule_7 3 rfl rfl)
theorem dX20_rule_168 : decode cX20_rule 168 = .ok (.ifCond .ne 7, 3) := dk_154 0 7 (dk_at dksX20_rule_7 4 rfl rfl)
theorem dX20_rule_171 : decode cX20_rule 171 = .ok (.iconst 1, 1) := dk_4 (dk_at dksX20_rule_7 7 rfl rfl)
theorem dX20_rule_172 : decode cX20_rule 172 = .ok (.goto 4, 3) := dk_167 0 4 (dk_at dksX20_rule_7 8 rfl rfl)
theorem dX20_rule_175 : decode cX20_rule 175 = .ok (.iconst 0, 1) := dk_3 (dk_at dksX20_rule_7 11 rfl rfl)
theorem dX20_rule_176 : decode cX20_rule 176 = .ok (.istore 7, 2) := dk_54 7 (dk_at dksX20_rule_7 12 rfl rfl)
theorem dX20_rule_178 : decode cX20_rule 178 = .ok (.iload 8, 2) := dk_21 8 (dk_at dksX20_rule_7 14 rfl rfl)
theorem dX20_rule_180 : decode cX20_rule 180 = .ok (.ifCond .ne 14, 3) := dk_154 0 14 (dk_at dksX20_rule_7 16 rfl rfl)
theorem dX20_rule_183 : decode cX20_rule 183 = .ok (.aload_n 0, 1) := dk_42 (dk_at dksX20_rule_7 19 rfl rfl)
theorem dX20_rule_184 : decode cX20_rule 184 = .ok (.getfield 80, 3) := dk_180 0 80 (dk_at dksX20_rule_7 20 rfl rfl)
theorem dX20_rule_187 : decode cX20_rule 187 = .ok (.getstatic 77, 3) := dk_178 0 77 (dk_at dksX20_rule_8 0 rfl rfl)
theorem dX20_rule_190 : decode cX20_rule 190 = .ok (.lcmp, 1) := dk_148 (dk_at dksX20_rule_8 3 rfl rfl)
theorem dX20_rule_191 : decode cX20_rule 191 = .ok (.ifCond .ne 7, 3) := dk_154 0 7 (dk_at dksX20_rule_8 4 rfl rfl)
theorem dX20_rule_194 : decode cX20_rule 194 = .ok (.iconst 1, 1) := dk_4 (dk_at dksX20_rule_8 7 rfl rfl)
theorem dX20_rule_195 : decode cX20_rule 195 = .ok (.goto 4, 3) := dk_167 0 4 (dk_at dksX20_rule_8 8 rfl rfl)
theorem dX20_rule_198 : decode cX20_rule 198 = .ok (.iconst 0, 1) := dk_3 (dk_at dksX20_rule_8 11 rfl rfl)
theorem dX20_rule_199 : decode cX20_rule 199 = .ok (.istore 8, 2) := dk_54 8 (dk_at dksX20_rule_8 12 rfl rfl)
theorem dX20_rule_201 : decode cX20_rule 201 = .ok (.aload_n 0, 1) := dk_42 (dk_at dksX20_rule_8 14 rfl rfl)
theorem dX20_rule_202 : decode cX20_rule 202 = .ok (.invokevirtual 83, 3) := dk_182 0 83 (dk_at dksX20_rule_8 15 rfl rfl)
theorem dX20_rule_205 : decode cX20_rule 205 = .ok (.goto (-106), 3) := dk_167 255 150 (dk_at dksX20_rule_8 18 rfl rfl)
theorem dX20_rule_208 : decode cX20_rule 208 = .ok (.aload_n 0, 1) := dk_42 (dk_at dksX20_rule_8 21 rfl rfl)
theorem dX20_rule_209 : decode cX20_rule 209 = .ok (.iconst 1, 1) := dk_4 (dk_at dksX20_rule_8 22 rfl rfl)
theorem dX20_rule_210 : decode cX20_rule 210 = .ok (.getstatic 86, 3) := dk_178 0 86 (dk_at dksX20_rule_9 0 rfl rfl)
theorem dX20_rule_213 : decode cX20_rule 213 = .ok (.invokevirtual 58, 3) := dk_182 0 58 (dk_at dksX20_rule_9 3 rfl rfl)
theorem dX20_rule_216 : decode cX20_rule 216 = .ok (.ifCond .eq 13, 3) := dk_153 0 13 (dk_at dksX20_rule_9 6 rfl rfl)
theorem dX20_rule_219 : decode cX20_rule 219 = .ok (.aload_n 0, 1) := dk_42 (dk_at dksX20_rule_9 9 rfl rfl)
theorem dX20_rule_220 : decode cX20_rule 220 = .ok (.iconst 0, 1) := dk_3 (dk_at dksX20_rule_9 10 rfl rfl)
theorem dX20_rule_221 : decode cX20_rule 221 = .ok (.sipush 9999, 3) := dk_17 39 15 (dk_at dksX20_rule_9 11 rfl rfl)
theorem dX20_rule_224 : decode cX20_rule 224 = .ok (.invokevirtual 89, 3) := dk_182 0 89 (dk_at dksX20_rule_9 14 rfl rfl)
theorem dX20_rule_227 : decode cX20_rule 227 = .ok (.istore 5, 2) := dk_54 5 (dk_at dksX20_rule_9 17 rfl rfl)
theorem dX20_rule_229 : decode cX20_rule 229 = .ok (.aload_n 0, 1) := dk_42 (dk_at dksX20_rule_9 19 rfl rfl)
theorem dX20_rule_230 : decode cX20_rule 230 = .ok (.iconst 3, 1) := dk_6 (dk_at dksX20_rule_9 20 rfl rfl)
theorem dX20_rule_231 : decode cX20_rule 231 = .ok (.ldc2_w 93, 3) := dk_20 0 93 (dk_at dksX20_rule_9 21 rfl rfl)
theorem dX20_rule_234 : decode cX20_rule 234 = .ok (.invokevirtual 43, 3) := dk_182 0 43 (dk_at dksX20_rule_10 0 rfl rfl)
theorem dX20_rule_237 : decode cX20_rule 237 = .ok (.new 95, 3) := dk_187 0 95 (dk_at dksX20_rule_10 3 rfl rfl)
theorem dX20_rule_240 : decode cX20_rule 240 = .ok (.dup, 1) := dk_89 (dk_at dksX20_rule_10 6 rfl rfl)
theorem dX20_rule_241 : decode cX20_rule 241 = .ok (.iload_n 1, 1) := dk_27 (dk_at dksX20_rule_10 7 rfl rfl)
theorem dX20_rule_242 : decode cX20_rule 242 = .ok (.iload_n 2, 1) := dk_28 (dk_at dksX20_rule_10 8 rfl rfl)
theorem dX20_rule_243 : decode cX20_rule 243 = .ok (.iload_n 3, 1) := dk_29 (dk_at dksX20_rule_10 9 rfl rfl)
theorem dX20_rule_244 : decode cX20_rule 244 = .ok (.iload 4, 2) := dk_21 4 (dk_at dksX20_rule_10 10 rfl rfl)
theorem dX20_rule_246 : decode cX20_rule 246 = .ok (.iload 6, 2) := dk_21 6 (dk_at dksX20_rule_10 12 rfl rfl)
theorem dX20_rule_248 : decode cX20_rule 248 = .ok (.iload 7, 2) := dk_21 7 (dk_at dksX20_rule_10 14 rfl rfl)
theorem dX20_rule_250 : decode cX20_rule 250 = .ok (.iload 8, 2) := dk_21 8 (dk_at dksX20_rule_10 16 rfl rfl)
theorem dX20_rule_252 : decode cX20_rule 252 = .ok (.iload 5, 2) := dk_21 5 (dk_at dksX20_rule_10 18 rfl rfl)
theorem dX20_rule_254 : decode cX20_rule 254 = .ok (.invokespecial 97, 3) := dk_183 0 97 (dk_at dksX20_rule_10 20 rfl rfl)
theorem dX20_rule_257 : decode cX20_rule 257 = .ok (.areturn, 1) := dk_176 (dk_at dksX20_rule_10 23 rfl rfl)
theorem q112 : (Jvm.Cond.initialized "LoanNames$LawReader") ∈ lw_all := lw_g (lw_at lw_m1 22 rfl) rfl
theorem q139 : (Jvm.Cond.fieldLink "LoanNames$LawReader" (31 : Nat) "LoanNames$Law" "rules" "[LLoanNames$Rule;") ∈ lw_all := lw_g (lw_at lw_m1 49 rfl) rfl
theorem q142 : (Jvm.Cond.fieldLink "LoanNames$LawReader" (28 : Nat) "LoanNames$Law" "many" "I") ∈ lw_all := lw_g (lw_at lw_m1 52 rfl) rfl
theorem q369 : (Jvm.Cond.fieldLink "LoanNames$LawReader" (24 : Nat) "LoanNames$LawReader" "kind" "I") ∈ lw_all := lw_g (lw_at lw_m2 39 rfl) rfl
theorem q370 : (Jvm.Cond.sameField "LoanNames$LawReader" "LoanNames$Reader" "kind" "I") ∈ lw_all := lw_g (lw_at lw_m2 40 rfl) rfl
theorem q374 : (Jvm.Cond.fieldLink "LoanNames$LawReader" (80 : Nat) "LoanNames$LawReader" "word" "J") ∈ lw_all := lw_g (lw_at lw_m2 44 rfl) rfl
theorem q375 : (Jvm.Cond.sameField "LoanNames$LawReader" "LoanNames$Reader" "word" "J") ∈ lw_all := lw_g (lw_at lw_m2 45 rfl) rfl
theorem q379 : (Jvm.Cond.fieldLink "LoanNames$LawReader" (20 : Nat) "LoanNames$LawReader" "wrong" "Z") ∈ lw_all := lw_g (lw_at lw_m2 49 rfl) rfl
theorem q380 : (Jvm.Cond.sameField "LoanNames$LawReader" "LoanNames$Reader" "wrong" "Z") ∈ lw_all := lw_g (lw_at lw_m2 50 rfl) rfl
theorem q483 : (Jvm.Cond.selects "LoanNames$LawReader" ({ cls := "LoanNames$Reader", name := "takes", desc := "(IJ)Z" } : Jvm.MethodName) ({ cls := "LoanNames$Reader", name := "takes", desc := "(IJ)Z" } : Jvm.MethodName)) ∈ lw_all := lw_g (lw_at lw_m2 153 rfl) rfl
theorem q489 : (Jvm.Cond.selects "LoanNames$LawReader" ({ cls := "LoanNames$Reader", name := "is", desc := "(IJ)Z" } : Jvm.MethodName) ({ cls := "LoanNames$Reader", name := "is", desc := "(IJ)Z" } : Jvm.MethodName)) ∈ lw_all := lw_g (lw_at lw_m2 159 rfl) rfl
theorem q767 : (Jvm.Cond.instantiable "LoanNames$LawReader" (8 : Nat)) ∈ lw_all := lw_g (lw_at lw_m3 197 rfl) rfl
theorem q769 : (Jvm.Cond.instanceMethod ({ cls := "LoanNames$LawReader", name := "<init>", desc := "([BI)V" } : Jvm.MethodName)) ∈ lw_all := lw_g (lw_at lw_m3 199 rfl) rfl
theorem q770 : (Jvm.Cond.code ({ cls := "LoanNames$LawReader", name := "<init>", desc := "([BI)V" } : Jvm.MethodName) prog_12_method_1_code (3 : Nat) (Option.none : Option Jvm.ClassFile.FieldType)) ∈ lw_all := lw_g (lw_at lw_m3 200 rfl) rfl
theorem q771 : (Jvm.Cond.methodLink "LoanNames$LawReader" (3 : Nat) ({ cls := "LoanNames$Reader", name := "<init>", desc := "([BI)V" } : Jvm.MethodName)) ∈ lw_all := lw_g (lw_at lw_m3 201 rfl) rfl
theorem q772 : (Jvm.Cond.classLink "LoanNames$LawReader" (9 : Nat) "LoanNames$Law") ∈ lw_all := lw_g (lw_at lw_m3 202 rfl) rfl
theorem q773 : (Jvm.Cond.methodLinkNest "LoanNames$LawReader" (11 : Nat) ({ cls := "LoanNames$Law", name := "<init>", desc := "()V" } : Jvm.MethodName) "LoanNames") ∈ lw_tbl := lw_at lw_m3 203 rfl
theorem q774 : (Jvm.Cond.fieldLink "LoanNames$LawReader" (14 : Nat) "LoanNames$LawReader" "law" "LLoanNames$Law;") ∈ lw_all := lw_g (lw_at lw_m3 204 rfl) rfl
theorem q776 : (Jvm.Cond.laysFinal "LoanNames$LawReader" "LoanNames$LawReader" "law" "LLoanNames$Law;") ∈ lw_all := lw_g (lw_at lw_m3 206 rfl) rfl
theorem q777 : (Jvm.Cond.soleField "LoanNames$LawReader" "law") ∈ lw_all := lw_g (lw_at lw_m3 207 rfl) rfl
theorem q778 : (Jvm.Cond.laysFinal "LoanNames$LawReader" "LoanNames$Reader" "text" "[B") ∈ lw_all := lw_g (lw_at lw_m3 208 rfl) rfl
theorem q779 : (Jvm.Cond.laysFinal "LoanNames$LawReader" "LoanNames$Reader" "size" "I") ∈ lw_all := lw_g (lw_at lw_m3 209 rfl) rfl
theorem q780 : (Jvm.Cond.lays "LoanNames$LawReader" "LoanNames$Reader" "at" "I") ∈ lw_all := lw_g (lw_at lw_m3 210 rfl) rfl
theorem q781 : (Jvm.Cond.lays "LoanNames$LawReader" "LoanNames$Reader" "end" "I") ∈ lw_all := lw_g (lw_at lw_m3 211 rfl) rfl
theorem q782 : (Jvm.Cond.lays "LoanNames$LawReader" "LoanNames$Reader" "kind" "I") ∈ lw_all := lw_g (lw_at lw_m3 212 rfl) rfl
theorem q783 : (Jvm.Cond.lays "LoanNames$LawReader" "LoanNames$Reader" "word" "J") ∈ lw_all := lw_g (lw_at lw_m3 213 rfl) rfl
theorem q784 : (Jvm.Cond.lays "LoanNames$LawReader" "LoanNames$Reader" "wrong" "Z") ∈ lw_all := lw_g (lw_at lw_m3 214 rfl) rfl
theorem q785 : (Jvm.Cond.superclass "LoanNames$LawReader" "LoanNames$Reader") ∈ lw_all := lw_g (lw_at lw_m3 215 rfl) rfl
theorem q787 : (Jvm.Cond.instanceMethod ({ cls := "LoanNames$LawReader", name := "reads", desc := "(II)Z" } : Jvm.MethodName)) ∈ lw_all := lw_g (lw_at lw_m3 217 rfl) rfl
theorem q788 : (Jvm.Cond.selects "LoanNames$LawReader" ({ cls := "LoanNames$LawReader", name := "reads", desc := "(II)Z" } : Jvm.MethodName) ({ cls := "LoanNames$LawReader", name := "reads", desc := "(II)Z" } : Jvm.MethodName)) ∈ lw_all := lw_g (lw_at lw_m3 218 rfl) rfl
theorem q789 : (Jvm.Cond.code ({ cls := "LoanNames$LawReader", name := "reads", desc := "(II)Z" } : Jvm.MethodName) prog_12_method_2_code (3 : Nat) (Option.some Jvm.ClassFile.FieldType.boolean)) ∈ lw_all := lw_g (lw_at lw_m3 219 rfl) rfl
theorem q790 : (Jvm.Cond.methodLink "LoanNames$LawReader" (35 : Nat) ({ cls := "LoanNames$LawReader", name := "rule", desc := "()LLoanNames$Rule;" } : Jvm.MethodName)) ∈ lw_all := lw_g (lw_at lw_m3 220 rfl) rfl
theorem q791 : (Jvm.Cond.privateMethod ({ cls := "LoanNames$LawReader", name := "rule", desc := "()LLoanNames$Rule;" } : Jvm.MethodName)) ∈ lw_tbl := lw_at lw_m3 221 rfl
theorem q792 : (Jvm.Cond.instanceMethod ({ cls := "LoanNames$LawReader", name := "rule", desc := "()LLoanNames$Rule;" } : Jvm.MethodName)) ∈ lw_all := lw_g (lw_at lw_m3 222 rfl) rfl
theorem q793 : (Jvm.Cond.code ({ cls := "LoanNames$LawReader", name := "rule", desc := "()LLoanNames$Rule;" } : Jvm.MethodName) prog_12_method_3_code (9 : Nat) (Option.some (Jvm.ClassFile.FieldType.object "LoanNames$Rule"))) ∈ lw_all := lw_g (lw_at lw_m3 223 rfl) rfl
theorem q794 : (Jvm.Cond.fieldLinkNest "LoanNames$LawReader" (39 : Nat) "LoanNames" "BAR" "J" "LoanNames") ∈ lw_tbl := lw_at lw_m3 224 rfl
theorem q796 : (Jvm.Cond.methodLink "LoanNames$LawReader" (43 : Nat) ({ cls := "LoanNames$LawReader", name := "needs", desc := "(IJ)V" } : Jvm.MethodName)) ∈ lw_all := lw_g (lw_at lw_m3 226 rfl) rfl
theorem q797 : (Jvm.Cond.sameMethod "LoanNames$LawReader" "LoanNames$Reader" "needs" "(IJ)V") ∈ lw_all := lw_g (lw_at lw_m3 227 rfl) rfl
theorem q798 : (Jvm.Cond.selects "LoanNames$LawReader" ({ cls := "LoanNames$LawReader", name := "needs", desc := "(IJ)V" } : Jvm.MethodName) ({ cls := "LoanNames$Reader", name := "needs", desc := "(IJ)V" } : Jvm.MethodName)) ∈ lw_all := lw_g (lw_at lw_m3 228 rfl) rfl
theorem q799 : (Jvm.Cond.fieldLinkNest "LoanNames$LawReader" (47 : Nat) "LoanNames" "FORM_NAMES" "[J" "LoanNames") ∈ lw_tbl := lw_at lw_m3 229 rfl
theorem q800 : (Jvm.Cond.methodLink "LoanNames$LawReader" (51 : Nat) ({ cls := "LoanNames$LawReader", name := "name", desc := "([JI)I" } : Jvm.MethodName)) ∈ lw_all := lw_g (lw_at lw_m3 230 rfl) rfl
theorem q801 : (Jvm.Cond.sameMethod "LoanNames$LawReader" "LoanNames$Reader" "name" "([JI)I") ∈ lw_all := lw_g (lw_at lw_m3 231 rfl) rfl
theorem q802 : (Jvm.Cond.selects "LoanNames$LawReader" ({ cls := "LoanNames$LawReader", name := "name", desc := "([JI)I" } : Jvm.MethodName) ({ cls := "LoanNames$Reader", name := "name", desc := "([JI)I" } : Jvm.MethodName)) ∈ lw_all := lw_g (lw_at lw_m3 232 rfl) rfl
theorem q803 : (Jvm.Cond.fieldLinkNest "LoanNames$LawReader" (55 : Nat) "LoanNames" "OF" "J" "LoanNames") ∈ lw_tbl := lw_at lw_m3 233 rfl
theorem q805 : (Jvm.Cond.methodLink "LoanNames$LawReader" (58 : Nat) ({ cls := "LoanNames$LawReader", name := "takes", desc := "(IJ)Z" } : Jvm.MethodName)) ∈ lw_all := lw_g (lw_at lw_m3 235 rfl) rfl
theorem q806 : (Jvm.Cond.sameMethod "LoanNames$LawReader" "LoanNames$Reader" "takes" "(IJ)Z") ∈ lw_all := lw_g (lw_at lw_m3 236 rfl) rfl
theorem q807 : (Jvm.Cond.selects "LoanNames$LawReader" ({ cls := "LoanNames$LawReader", name := "takes", desc := "(IJ)Z" } : Jvm.MethodName) ({ cls := "LoanNames$Reader", name := "takes", desc := "(IJ)Z" } : Jvm.MethodName)) ∈ lw_all := lw_g (lw_at lw_m3 237 rfl) rfl
theorem q808 : (Jvm.Cond.fieldLinkNest "LoanNames$LawReader" (62 : Nat) "LoanNames" "THING_NAMES" "[J" "LoanNames") ∈ lw_tbl := lw_at lw_m3 238 rfl
theorem q809 : (Jvm.Cond.fieldLinkNest "LoanNames$LawReader" (65 : Nat) "LoanNames" "THEN" "J" "LoanNames") ∈ lw_tbl := lw_at lw_m3 239 rfl
theorem q811 : (Jvm.Cond.fieldLinkNest "LoanNames$LawReader" (68 : Nat) "LoanNames" "BACK" "J" "LoanNames") ∈ lw_tbl := lw_at lw_m4 1 rfl
theorem q812 : (Jvm.Cond.methodLink "LoanNames$LawReader" (71 : Nat) ({ cls := "LoanNames$LawReader", name := "is", desc := "(IJ)Z" } : Jvm.MethodName)) ∈ lw_all := lw_g (lw_at lw_m4 2 rfl) rfl
theorem q813 : (Jvm.Cond.sameMethod "LoanNames$LawReader" "LoanNames$Reader" "is" "(IJ)Z") ∈ lw_all := lw_g (lw_at lw_m4 3 rfl) rfl
theorem q814 : (Jvm.Cond.selects "LoanNames$LawReader" ({ cls := "LoanNames$LawReader", name := "is", desc := "(IJ)Z" } : Jvm.MethodName) ({ cls := "LoanNames$Reader", name := "is", desc := "(IJ)Z" } : Jvm.MethodName)) ∈ lw_all := lw_g (lw_at lw_m4 4 rfl) rfl
theorem q815 : (Jvm.Cond.fieldLinkNest "LoanNames$LawReader" (74 : Nat) "LoanNames" "SAME" "J" "LoanNames") ∈ lw_tbl := lw_at lw_m4 5 rfl
theorem q817 : (Jvm.Cond.fieldLinkNest "LoanNames$LawReader" (77 : Nat) "LoanNames" "MORE" "J" "LoanNames") ∈ lw_tbl := lw_at lw_m4 7 rfl
theorem q819 : (Jvm.Cond.methodLink "LoanNames$LawReader" (83 : Nat) ({ cls := "LoanNames$LawReader", name := "pass", desc := "()V" } : Jvm.MethodName)) ∈ lw_all := lw_g (lw_at lw_m4 9 rfl) rfl
theorem q820 : (Jvm.Cond.sameMethod "LoanNames$LawReader" "LoanNames$Reader" "pass" "()V") ∈ lw_all := lw_g (lw_at lw_m4 10 rfl) rfl
theorem q821 : (Jvm.Cond.selects "LoanNames$LawReader" ({ cls := "LoanNames$LawReader", name := "pass", desc := "()V" } : Jvm.MethodName) ({ cls := "LoanNames$Reader", name := "pass", desc := "()V" } : Jvm.MethodName)) ∈ lw_all := lw_g (lw_at lw_m4 11 rfl) rfl
theorem q822 : (Jvm.Cond.fieldLinkNest "LoanNames$LawReader" (86 : Nat) "LoanNames" "WITHIN" "J" "LoanNames") ∈ lw_tbl := lw_at lw_m4 12 rfl
theorem q824 : (Jvm.Cond.methodLink "LoanNames$LawReader" (89 : Nat) ({ cls := "LoanNames$LawReader", name := "number", desc := "(II)I" } : Jvm.MethodName)) ∈ lw_all := lw_g (lw_at lw_m4 14 rfl) rfl
theorem q825 : (Jvm.Cond.sameMethod "LoanNames$LawReader" "LoanNames$Reader" "number" "(II)I") ∈ lw_all := lw_g (lw_at lw_m4 15 rfl) rfl
theorem q826 : (Jvm.Cond.selects "LoanNames$LawReader" ({ cls := "LoanNames$LawReader", name := "number", desc := "(II)I" } : Jvm.MethodName) ({ cls := "LoanNames$Reader", name := "number", desc := "(II)I" } : Jvm.MethodName)) ∈ lw_all := lw_g (lw_at lw_m4 16 rfl) rfl
theorem q827 : (Jvm.Cond.constantLong "LoanNames$LawReader" (93 : Nat) (59 : Int64)) ∈ lw_all := lw_g (lw_at lw_m4 17 rfl) rfl
theorem q828 : (Jvm.Cond.classLink "LoanNames$LawReader" (95 : Nat) "LoanNames$Rule") ∈ lw_all := lw_g (lw_at lw_m4 18 rfl) rfl
theorem q830 : (Jvm.Cond.methodLink "LoanNames$LawReader" (97 : Nat) ({ cls := "LoanNames$Rule", name := "<init>", desc := "(IIIIZZZI)V" } : Jvm.MethodName)) ∈ lw_all := lw_g (lw_at lw_m4 20 rfl) rfl
theorem q862 : (Jvm.Cond.sameMethod "LoanNames$LawReader" "LoanNames$Reader" "place" "()I") ∈ lw_all := lw_g (lw_at lw_m4 52 rfl) rfl
theorem q863 : (Jvm.Cond.selects "LoanNames$LawReader" ({ cls := "LoanNames$LawReader", name := "place", desc := "()I" } : Jvm.MethodName) ({ cls := "LoanNames$Reader", name := "place", desc := "()I" } : Jvm.MethodName)) ∈ lw_all := lw_g (lw_at lw_m4 53 rfl) rfl
theorem q2147 : (Jvm.Cond.selects "LoanNames$LawReader" ({ cls := "LoanNames$Reader", name := "pass", desc := "()V" } : Jvm.MethodName) ({ cls := "LoanNames$Reader", name := "pass", desc := "()V" } : Jvm.MethodName)) ∈ lw_all := lw_g (lw_at lw_m9 137 rfl) rfl
theorem in_X20 : ∀ w ∈ wsX200, w ∈ lw_all := lw_in wsX200 [778, 779, 780, 781, 782, 783, 784, 776] (by decide +kernel) (by decide +kernel)
/-! LoanNames$Rule -/
set_option maxRecDepth 100000
def RX21 : String := "LoanNames$Rule"
def TX21 : u_T := fun k => match k with
  | 0 => ("LoanNames$Rule", "form", "I", true)
  | 1 => ("LoanNames$Rule", "thing", "I", true)
  | 2 => ("LoanNames$Rule", "thenForm", "I", true)
  | 3 => ("LoanNames$Rule", "thenThing", "I", true)
  | 4 => ("LoanNames$Rule", "within", "I", true)
  | 5 => ("LoanNames$Rule", "back", "Z", true)
  | 6 => ("LoanNames$Rule", "same", "Z", true)
  | _ => ("LoanNames$Rule", "more", "Z", true)
def tyX21 : Nat → FieldType := fun k => match k with
  | 0 => .int
  | 1 => .int
  | 2 => .int
  | 3 => .int
  | 4 => .int
  | 5 => .boolean
  | 6 => .boolean
  | _ => .boolean
abbrev wsX210 : List Cond := u_ws RX21 TX21 8
theorem nmX21 : ∀ a, a < 8 → ∀ b, b < 8 → a ≠ b → (TX21 a).2.1 ≠ (TX21 b).2.1 := by decide +kernel
theorem tyX21_ok : ∀ k, k < 8 → parseFieldDescriptor (TX21 k).2.2.1 = some (tyX21 k) := by decide +kernel
abbrev cX21_init : ByteArray := prog_19_method_1_code
def yX21_init : MethodName := ⟨RX21, "<init>", "(IIIIZZZI)V"⟩
def dkwX21_init_2 : List UInt8 := [181, 0, 34, 177]
abbrev dktX21_init_2 : List UInt8 := dkwX21_init_2 ++ []
def dkwX21_init_1 : List UInt8 := [181, 0, 21, 42, 21, 5, 181, 0, 24, 42, 21, 6, 181, 0, 28, 42, 21, 7, 181, 0, 31, 42, 21, 8]
abbrev dktX21_init_1 : List UInt8 := dkwX21_init_1 ++ dktX21_init_2
def dkwX21_init_0 : List UInt8 := [42, 183, 0, 3, 42, 27, 181, 0, 9, 42, 28, 181, 0, 15, 42, 29, 181, 0, 18, 42, 21, 4]
abbrev dktX21_init_0 : List UInt8 := dkwX21_init_0 ++ dktX21_init_1
theorem dksX21_init_0 : cX21_init.data.toList.drop 0 = dktX21_init_0 := by decide +kernel
theorem dksX21_init_1 : cX21_init.data.toList.drop 22 = dktX21_init_1 := dk_seg dksX21_init_0 22 rfl rfl
theorem dksX21_init_2 : cX21_init.data.toList.drop 46 = dktX21_init_2 := dk_seg dksX21_init_1 24 rfl rfl
theorem dX21_init_0 : decode cX21_init 0 = .ok (.aload_n 0, 1) := dk_42 (dk_at dksX21_init_0 0 rfl rfl)
theorem dX21_init_1 : decode cX21_init 1 = .ok (.invokespecial 3, 3) := dk_183 0 3 (dk_at dksX21_init_0 1 rfl rfl)
theorem dX21_init_4 : decode cX21_init 4 = .ok (.aload_n 0, 1) := dk_42 (dk_at dksX21_init_0 4 rfl rfl)
theorem dX21_init_5 : decode cX21_init 5 = .ok (.iload_n 1, 1) := dk_27 (dk_at dksX21_init_0 5 rfl rfl)
theorem dX21_init_6 : decode cX21_init 6 = .ok (.putfield 9, 3) := dk_181 0 9 (dk_at dksX21_init_0 6 rfl rfl)
theorem dX21_init_9 : decode cX21_init 9 = .ok (.aload_n 0, 1) := dk_42 (dk_at dksX21_init_0 9 rfl rfl)
theorem dX21_init_10 : decode cX21_init 10 = .ok (.iload_n 2, 1) := dk_28 (dk_at dksX21_init_0 10 rfl rfl)
theorem dX21_init_11 : decode cX21_init 11 = .ok (.putfield 15, 3) := dk_181 0 15 (dk_at dksX21_init_0 11 rfl rfl)
theorem dX21_init_14 : decode cX21_init 14 = .ok (.aload_n 0, 1) := dk_42 (dk_at dksX21_init_0 14 rfl rfl)
theorem dX21_init_15 : decode cX21_init 15 = .ok (.iload_n 3, 1) := dk_29 (dk_at dksX21_init_0 15 rfl rfl)
theorem dX21_init_16 : decode cX21_init 16 = .ok (.putfield 18, 3) := dk_181 0 18 (dk_at dksX21_init_0 16 rfl rfl)
theorem dX21_init_19 : decode cX21_init 19 = .ok (.aload_n 0, 1) := dk_42 (dk_at dksX21_init_0 19 rfl rfl)
theorem dX21_init_20 : decode cX21_init 20 = .ok (.iload 4, 2) := dk_21 4 (dk_at dksX21_init_0 20 rfl rfl)
theorem dX21_init_22 : decode cX21_init 22 = .ok (.putfield 21, 3) := dk_181 0 21 (dk_at dksX21_init_1 0 rfl rfl)
theorem dX21_init_25 : decode cX21_init 25 = .ok (.aload_n 0, 1) := dk_42 (dk_at dksX21_init_1 3 rfl rfl)
theorem dX21_init_26 : decode cX21_init 26 = .ok (.iload 5, 2) := dk_21 5 (dk_at dksX21_init_1 4 rfl rfl)
theorem dX21_init_28 : decode cX21_init 28 = .ok (.putfield 24, 3) := dk_181 0 24 (dk_at dksX21_init_1 6 rfl rfl)
theorem dX21_init_31 : decode cX21_init 31 = .ok (.aload_n 0, 1) := dk_42 (dk_at dksX21_init_1 9 rfl rfl)
theorem dX21_init_32 : decode cX21_init 32 = .ok (.iload 6, 2) := dk_21 6 (dk_at dksX21_init_1 10 rfl rfl)
theorem dX21_init_34 : decode cX21_init 34 = .ok (.putfield 28, 3) := dk_181 0 28 (dk_at dksX21_init_1 12 rfl rfl)
theorem dX21_init_37 : decode cX21_init 37 = .ok (.aload_n 0, 1) := dk_42 (dk_at dksX21_init_1 15 rfl rfl)
theorem dX21_init_38 : decode cX21_init 38 = .ok (.iload 7, 2) := dk_21 7 (dk_at dksX21_init_1 16 rfl rfl)
theorem dX21_init_40 : decode cX21_init 40 = .ok (.putfield 31, 3) := dk_181 0 31 (dk_at dksX21_init_1 18 rfl rfl)
theorem dX21_init_43 : decode cX21_init 43 = .ok (.aload_n 0, 1) := dk_42 (dk_at dksX21_init_1 21 rfl rfl)
theorem dX21_init_44 : decode cX21_init 44 = .ok (.iload 8, 2) := dk_21 8 (dk_at dksX21_init_1 22 rfl rfl)
theorem dX21_init_46 : decode cX21_init 46 = .ok (.putfield 34, 3) := dk_181 0 34 (dk_at dksX21_init_2 0 rfl rfl)
theorem dX21_init_49 : decode cX21_init 49 = .ok (.return_, 1) := dk_177 (dk_at dksX21_init_2 3 rfl rfl)
abbrev cX21_bars : ByteArray := prog_19_method_3_code
def yX21_bars : MethodName := ⟨RX21, "bars", "(LLoanNames$LeafRow;I)Z"⟩
def dkwX21_bars_0 : List UInt8 := [43, 180, 0, 43, 28, 50, 42, 180, 0, 9, 42, 180, 0, 15, 184, 0, 49, 172]
abbrev dktX21_bars_0 : List UInt8 := dkwX21_bars_0 ++ []
theorem dksX21_bars_0 : cX21_bars.data.toList.drop 0 = dktX21_bars_0 := by decide +kernel
theorem dX21_bars_0 : decode cX21_bars 0 = .ok (.aload_n 1, 1) := dk_43 (dk_at dksX21_bars_0 0 rfl rfl)
theorem dX21_bars_1 : decode cX21_bars 1 = .ok (.getfield 43, 3) := dk_180 0 43 (dk_at dksX21_bars_0 1 rfl rfl)
theorem dX21_bars_4 : decode cX21_bars 4 = .ok (.iload_n 2, 1) := dk_28 (dk_at dksX21_bars_0 4 rfl rfl)
theorem dX21_bars_5 : decode cX21_bars 5 = .ok (.aaload, 1) := dk_50 (dk_at dksX21_bars_0 5 rfl rfl)
theorem dX21_bars_6 : decode cX21_bars 6 = .ok (.aload_n 0, 1) := dk_42 (dk_at dksX21_bars_0 6 rfl rfl)
theorem dX21_bars_7 : decode cX21_bars 7 = .ok (.getfield 9, 3) := dk_180 0 9 (dk_at dksX21_bars_0 7 rfl rfl)
theorem dX21_bars_10 : decode cX21_bars 10 = .ok (.aload_n 0, 1) := dk_42 (dk_at dksX21_bars_0 10 rfl rfl)
theorem dX21_bars_11 : decode cX21_bars 11 = .ok (.getfield 15, 3) := dk_180 0 15 (dk_at dksX21_bars_0 11 rfl rfl)
theorem dX21_bars_14 : decode cX21_bars 14 = .ok (.invokestatic 49, 3) := dk_184 0 49 (dk_at dksX21_bars_0 14 rfl rfl)
theorem dX21_bars_17 : decode cX21_bars 17 = .ok (.ireturn, 1) := dk_172 (dk_at dksX21_bars_0 17 rfl rfl)
abbrev cX21_is : ByteArray := prog_19_method_2_code
def yX21_is : MethodName := ⟨RX21, "is", "(LLoanNames$Leaf;II)Z"⟩
def dkwX21_is_1 : List UInt8 := [160, 0, 7, 4, 167, 0, 4, 3, 172]
abbrev dktX21_is_1 : List UInt8 := dkwX21_is_1 ++ []
def dkwX21_is_0 : List UInt8 := [27, 7, 159, 0, 11, 42, 182, 0, 37, 27, 160, 0, 20, 28, 2, 159, 0, 11, 42, 180, 0, 42, 28]
abbrev dktX21_is_0 : List UInt8 := dkwX21_is_0 ++ dktX21_is_1
theorem dksX21_is_0 : cX21_is.data.toList.drop 0 = dktX21_is_0 := by decide +kernel
theorem dksX21_is_1 : cX21_is.data.toList.drop 23 = dktX21_is_1 := dk_seg dksX21_is_0 23 rfl rfl
theorem dX21_is_0 : decode cX21_is 0 = .ok (.iload_n 1, 1) := dk_27 (dk_at dksX21_is_0 0 rfl rfl)
theorem dX21_is_1 : decode cX21_is 1 = .ok (.iconst 4, 1) := dk_7 (dk_at dksX21_is_0 1 rfl rfl)
theorem dX21_is_2 : decode cX21_is 2 = .ok (.if_icmp .eq 11, 3) := dk_159 0 11 (dk_at dksX21_is_0 2 rfl rfl)
theorem dX21_is_5 : decode cX21_is 5 = .ok (.aload_n 0, 1) := dk_42 (dk_at dksX21_is_0 5 rfl rfl)
theorem dX21_is_6 : decode cX21_is 6 = .ok (.invokevirtual 37, 3) := dk_182 0 37 (dk_at dksX21_is_0 6 rfl rfl)
theorem dX21_is_9 : decode cX21_is 9 = .ok (.iload_n 1, 1) := dk_27 (dk_at dksX21_is_0 9 rfl rfl)
theorem dX21_is_10 : decode cX21_is 10 = .ok (.if_icmp .ne 20, 3) := dk_160 0 20 (dk_at dksX21_is_0 10 rfl rfl)
theorem dX21_is_13 : decode cX21_is 13 = .ok (.iload_n 2, 1) := dk_28 (dk_at dksX21_is_0 13 rfl rfl)
theorem dX21_is_14 : decode cX21_is 14 = .ok (.iconst (-1), 1) := dk_2 (dk_at dksX21_is_0 14 rfl rfl)
theorem dX21_is_15 : decode cX21_is 15 = .ok (.if_icmp .eq 11, 3) := dk_159 0 11 (dk_at dksX21_is_0 15 rfl rfl)
theorem dX21_is_18 : decode cX21_is 18 = .ok (.aload_n 0, 1) := dk_42 (dk_at dksX21_is_0 18 rfl rfl)
theorem dX21_is_19 : decode cX21_is 19 = .ok (.getfield 42, 3) := dk_180 0 42 (dk_at dksX21_is_0 19 rfl rfl)
theorem dX21_is_22 : decode cX21_is 22 = .ok (.iload_n 2, 1) := dk_28 (dk_at dksX21_is_0 22 rfl rfl)
theorem dX21_is_23 : decode cX21_is 23 = .ok (.if_icmp .ne 7, 3) := dk_160 0 7 (dk_at dksX21_is_1 0 rfl rfl)
theorem dX21_is_26 : decode cX21_is 26 = .ok (.iconst 1, 1) := dk_4 (dk_at dksX21_is_1 3 rfl rfl)
theorem dX21_is_27 : decode cX21_is 27 = .ok (.goto 4, 3) := dk_167 0 4 (dk_at dksX21_is_1 4 rfl rfl)
theorem dX21_is_30 : decode cX21_is 30 = .ok (.iconst 0, 1) := dk_3 (dk_at dksX21_is_1 7 rfl rfl)
theorem dX21_is_31 : decode cX21_is 31 = .ok (.ireturn, 1) := dk_172 (dk_at dksX21_is_1 8 rfl rfl)
abbrev cX21_bars_2 : ByteArray := prog_19_method_4_code
def yX21_bars_2 : MethodName := ⟨RX21, "bars", "(LLoanNames$LeafRow;II[I)Z"⟩
def dkwX21_bars_2_8 : List UInt8 := [164, 0, 7, 4, 167, 0, 4, 3, 172]
abbrev dktX21_bars_2_8 : List UInt8 := dkwX21_bars_2_8 ++ []
def dkwX21_bars_2_7 : List UInt8 := [180, 0, 42, 160, 0, 27, 42, 180, 0, 31, 153, 0, 16, 25, 6, 182, 0, 63, 25, 5, 182, 0, 63]
abbrev dktX21_bars_2_7 : List UInt8 := dkwX21_bars_2_7 ++ dktX21_bars_2_8
def dkwX21_bars_2_6 : List UInt8 := [180, 0, 57, 46, 159, 0, 5, 3, 172, 42, 180, 0, 28, 153, 0, 16, 25, 5, 180, 0, 42, 25, 6]
abbrev dktX21_bars_2_6 : List UInt8 := dkwX21_bars_2_6 ++ dktX21_bars_2_7
def dkwX21_bars_2_5 : List UInt8 := [25, 4, 25, 5, 180, 0, 60, 46, 160, 0, 22, 25, 4, 25, 6, 180, 0, 60, 46, 25, 4, 25, 5]
abbrev dktX21_bars_2_5 : List UInt8 := dkwX21_bars_2_5 ++ dktX21_bars_2_6
def dkwX21_bars_2_4 : List UInt8 := [180, 0, 34, 164, 0, 5, 3, 172, 42, 180, 0, 24, 153, 0, 43, 25, 4, 25, 6, 180, 0, 57, 46]
abbrev dktX21_bars_2_4 : List UInt8 := dkwX21_bars_2_4 ++ dktX21_bars_2_5
def dkwX21_bars_2_3 : List UInt8 := [155, 0, 30, 21, 7, 154, 0, 8, 29, 28, 161, 0, 20, 42, 180, 0, 34, 2, 159, 0, 14, 21, 7, 42]
abbrev dktX21_bars_2_3 : List UInt8 := dkwX21_bars_2_3 ++ dktX21_bars_2_4
def dkwX21_bars_2_2 : List UInt8 := [184, 0, 49, 154, 0, 5, 3, 172, 43, 29, 182, 0, 53, 43, 28, 182, 0, 53, 100, 54, 7, 21, 7]
abbrev dktX21_bars_2_2 : List UInt8 := dkwX21_bars_2_2 ++ dktX21_bars_2_3
def dkwX21_bars_2_1 : List UInt8 := [180, 0, 9, 42, 180, 0, 15, 184, 0, 49, 153, 0, 19, 25, 6, 42, 180, 0, 18, 42, 180, 0, 21]
abbrev dktX21_bars_2_1 : List UInt8 := dkwX21_bars_2_1 ++ dktX21_bars_2_2
def dkwX21_bars_2_0 : List UInt8 := [43, 180, 0, 43, 28, 50, 58, 5, 43, 180, 0, 43, 29, 50, 58, 6, 28, 29, 159, 0, 35, 25, 5, 42]
abbrev dktX21_bars_2_0 : List UInt8 := dkwX21_bars_2_0 ++ dktX21_bars_2_1
theorem dksX21_bars_2_0 : cX21_bars_2.data.toList.drop 0 = dktX21_bars_2_0 := by decide +kernel
theorem dksX21_bars_2_1 : cX21_bars_2.data.toList.drop 24 = dktX21_bars_2_1 := dk_seg dksX21_bars_2_0 24 rfl rfl
theorem dksX21_bars_2_2 : cX21_bars_2.data.toList.drop 47 = dktX21_bars_2_2 := dk_seg dksX21_bars_2_1 23 rfl rfl
theorem dksX21_bars_2_3 : cX21_bars_2.data.toList.drop 70 = dktX21_bars_2_3 := dk_seg dksX21_bars_2_2 23 rfl rfl
theorem dksX21_bars_2_4 : cX21_bars_2.data.toList.drop 94 = dktX21_bars_2_4 := dk_seg dksX21_bars_2_3 24 rfl rfl
theorem dksX21_bars_2_5 : cX21_bars_2.data.toList.drop 117 = dktX21_bars_2_5 := dk_seg dksX21_bars_2_4 23 rfl rfl
theorem dksX21_bars_2_6 : cX21_bars_2.data.toList.drop 140 = dktX21_bars_2_6 := dk_seg dksX21_bars_2_5 23 rfl rfl
theorem dksX21_bars_2_7 : cX21_bars_2.data.toList.drop 163 = dktX21_bars_2_7 := dk_seg dksX21_bars_2_6 23 rfl rfl
theorem dksX21_bars_2_8 : cX21_bars_2.data.toList.drop 186 = dktX21_bars_2_8 := dk_seg dksX21_bars_2_7 23 rfl rfl
theorem dX21_bars_2_0 : decode cX21_bars_2 0 = .ok (.aload_n 1, 1) := dk_43 (dk_at dksX21_bars_2_0 0 rfl rfl)
theorem dX21_bars_2_1 : decode cX21_bars_2 1 = .ok (.getfield 43, 3) := dk_180 0 43 (dk_at dksX21_bars_2_0 1 rfl rfl)
theorem dX21_bars_2_4 : decode cX21_bars_2 4 = .ok (.iload_n 2, 1) := dk_28 (dk_at dksX21_bars_2_0 4 rfl rfl)
theorem dX21_bars_2_5 : decode cX21_bars_2 5 = .ok (.aaload, 1) := dk_50 (dk_at dksX21_bars_2_0 5 rfl rfl)
theorem dX21_bars_2_6 : decode cX21_bars_2 6 = .ok (.astore 5, 2) := dk_58 5 (dk_at dksX21_bars_2_0 6 rfl rfl)
theorem dX21_bars_2_8 : decode cX21_bars_2 8 = .ok (.aload_n 1, 1) := dk_43 (dk_at dksX21_bars_2_0 8 rfl rfl)
theorem dX21_bars_2_9 : decode cX21_bars_2 9 = .ok (.getfield 43, 3) := dk_180 0 43 (dk_at dksX21_bars_2_0 9 rfl rfl)
theorem dX21_bars_2_12 : decode cX21_bars_2 12 = .ok (.iload_n 3, 1) := dk_29 (dk_at dksX21_bars_2_0 12 rfl rfl)
theorem dX21_bars_2_13 : decode cX21_bars_2 13 = .ok (.aaload, 1) := dk_50 (dk_at dksX21_bars_2_0 13 rfl rfl)
theorem dX21_bars_2_14 : decode cX21_bars_2 14 = .ok (.astore 6, 2) := dk_58 6 (dk_at dksX21_bars_2_0 14 rfl rfl)
theorem dX21_bars_2_16 : decode cX21_bars_2 16 = .ok (.iload_n 2, 1) := dk_28 (dk_at dksX21_bars_2_0 16 rfl rfl)
theorem dX21_bars_2_17 : decode cX21_bars_2 17 = .ok (.iload_n 3, 1) := dk_29 (dk_at dksX21_bars_2_0 17 rfl rfl)
theorem dX21_bars_2_18 : decode cX21_bars_2 18 = .ok (.if_icmp .eq 35, 3) := dk_159 0 35 (dk_at dksX21_bars_2_0 18 rfl rfl)
theorem dX21_bars_2_21 : decode cX21_bars_2 21 = .ok (.aload 5, 2) := dk_25 5 (dk_at dksX21_bars_2_0 21 rfl rfl)
theorem dX21_bars_2_23 : decode cX21_bars_2 23 = .ok (.aload_n 0, 1) := dk_42 (dk_at dksX21_bars_2_0 23 rfl rfl)
theorem dX21_bars_2_24 : decode cX21_bars_2 24 = .ok (.getfield 9, 3) := dk_180 0 9 (dk_at dksX21_bars_2_1 0 rfl rfl)
theorem dX21_bars_2_27 : decode cX21_bars_2 27 = .ok (.aload_n 0, 1) := dk_42 (dk_at dksX21_bars_2_1 3 rfl rfl)
theorem dX21_bars_2_28 : decode cX21_bars_2 28 = .ok (.getfield 15, 3) := dk_180 0 15 (dk_at dksX21_bars_2_1 4 rfl rfl)
theorem dX21_bars_2_31 : decode cX21_bars_2 31 = .ok (.invokestatic 49, 3) := dk_184 0 49 (dk_at dksX21_bars_2_1 7 rfl rfl)
theorem dX21_bars_2_34 : decode cX21_bars_2 34 = .ok (.ifCond .eq 19, 3) := dk_153 0 19 (dk_at dksX21_bars_2_1 10 rfl rfl)
theorem dX21_bars_2_37 : decode cX21_bars_2 37 = .ok (.aload 6, 2) := dk_25 6 (dk_at dksX21_bars_2_1 13 rfl rfl)
theorem dX21_bars_2_39 : decode cX21_bars_2 39 = .ok (.aload_n 0, 1) := dk_42 (dk_at dksX21_bars_2_1 15 rfl rfl)
theorem dX21_bars_2_40 : decode cX21_bars_2 40 = .ok (.getfield 18, 3) := dk_180 0 18 (dk_at dksX21_bars_2_1 16 rfl rfl)
theorem dX21_bars_2_43 : decode cX21_bars_2 43 = .ok (.aload_n 0, 1) := dk_42 (dk_at dksX21_bars_2_1 19 rfl rfl)
theorem dX21_bars_2_44 : decode cX21_bars_2 44 = .ok (.getfield 21, 3) := dk_180 0 21 (dk_at dksX21_bars_2_1 20 rfl rfl)
theorem dX21_bars_2_47 : decode cX21_bars_2 47 = .ok (.invokestatic 49, 3) := dk_184 0 49 (dk_at dksX21_bars_2_2 0 rfl rfl)
theorem dX21_bars_2_50 : decode cX21_bars_2 50 = .ok (.ifCond .ne 5, 3) := dk_154 0 5 (dk_at dksX21_bars_2_2 3 rfl rfl)
theorem dX21_bars_2_53 : decode cX21_bars_2 53 = .ok (.iconst 0, 1) := dk_3 (dk_at dksX21_bars_2_2 6 rfl rfl)
theorem dX21_bars_2_54 : decode cX21_bars_2 54 = .ok (.ireturn, 1) := dk_172 (dk_at dksX21_bars_2_2 7 rfl rfl)
theorem dX21_bars_2_55 : decode cX21_bars_2 55 = .ok (.aload_n 1, 1) := dk_43 (dk_at dksX21_bars_2_2 8 rfl rfl)
theorem dX21_bars_2_56 : decode cX21_bars_2 56 = .ok (.iload_n 3, 1) := dk_29 (dk_at dksX21_bars_2_2 9 rfl rfl)
theorem dX21_bars_2_57 : decode cX21_bars_2 57 = .ok (.invokevirtual 53, 3) := dk_182 0 53 (dk_at dksX21_bars_2_2 10 rfl rfl)
theorem dX21_bars_2_60 : decode cX21_bars_2 60 = .ok (.aload_n 1, 1) := dk_43 (dk_at dksX21_bars_2_2 13 rfl rfl)
theorem dX21_bars_2_61 : decode cX21_bars_2 61 = .ok (.iload_n 2, 1) := dk_28 (dk_at dksX21_bars_2_2 14 rfl rfl)
theorem dX21_bars_2_62 : decode cX21_bars_2 62 = .ok (.invokevirtual 53, 3) := dk_182 0 53 (dk_at dksX21_bars_2_2 15 rfl rfl)
theorem dX21_bars_2_65 : decode cX21_bars_2 65 = .ok (.isub, 1) := dk_100 (dk_at dksX21_bars_2_2 18 rfl rfl)
theorem dX21_bars_2_66 : decode cX21_bars_2 66 = .ok (.istore 7, 2) := dk_54 7 (dk_at dksX21_bars_2_2 19 rfl rfl)
theorem dX21_bars_2_68 : decode cX21_bars_2 68 = .ok (.iload 7, 2) := dk_21 7 (dk_at dksX21_bars_2_2 21 rfl rfl)
theorem dX21_bars_2_70 : decode cX21_bars_2 70 = .ok (.ifCond .lt 30, 3) := dk_155 0 30 (dk_at dksX21_bars_2_3 0 rfl rfl)
theorem dX21_bars_2_73 : decode cX21_bars_2 73 = .ok (.iload 7, 2) := dk_21 7 (dk_at dksX21_bars_2_3 3 rfl rfl)
theorem dX21_bars_2_75 : decode cX21_bars_2 75 = .ok (.ifCond .ne 8, 3) := dk_154 0 8 (dk_at dksX21_bars_2_3 5 rfl rfl)
theorem dX21_bars_2_78 : decode cX21_bars_2 78 = .ok (.iload_n 3, 1) := dk_29 (dk_at dksX21_bars_2_3 8 rfl rfl)
theorem dX21_bars_2_79 : decode cX21_bars_2 79 = .ok (.iload_n 2, 1) := dk_28 (dk_at dksX21_bars_2_3 9 rfl rfl)
theorem dX21_bars_2_80 : decode cX21_bars_2 80 = .ok (.if_icmp .lt 20, 3) := dk_161 0 20 (dk_at dksX21_bars_2_3 10 rfl rfl)
theorem dX21_bars_2_83 : decode cX21_bars_2 83 = .ok (.aload_n 0, 1) := dk_42 (dk_at dksX21_bars_2_3 13 rfl rfl)
theorem dX21_bars_2_84 : decode cX21_bars_2 84 = .ok (.getfield 34, 3) := dk_180 0 34 (dk_at dksX21_bars_2_3 14 rfl rfl)
theorem dX21_bars_2_87 : decode cX21_bars_2 87 = .ok (.iconst (-1), 1) := dk_2 (dk_at dksX21_bars_2_3 17 rfl rfl)
theorem dX21_bars_2_88 : decode cX21_bars_2 88 = .ok (.if_icmp .eq 14, 3) := dk_159 0 14 (dk_at dksX21_bars_2_3 18 rfl rfl)
theorem dX21_bars_2_91 : decode cX21_bars_2 91 = .ok (.iload 7, 2) := dk_21 7 (dk_at dksX21_bars_2_3 21 rfl rfl)
theorem dX21_bars_2_93 : decode cX21_bars_2 93 = .ok (.aload_n 0, 1) := dk_42 (dk_at dksX21_bars_2_3 23 rfl rfl)
theorem dX21_bars_2_94 : decode cX21_bars_2 94 = .ok (.getfield 34, 3) := dk_180 0 34 (dk_at dksX21_bars_2_4 0 rfl rfl)
theorem dX21_bars_2_97 : decode cX21_bars_2 97 = .ok (.if_icmp .le 5, 3) := dk_164 0 5 (dk_at dksX21_bars_2_4 3 rfl rfl)
theorem dX21_bars_2_100 : decode cX21_bars_2 100 = .ok (.iconst 0, 1) := dk_3 (dk_at dksX21_bars_2_4 6 rfl rfl)
theorem dX21_bars_2_101 : decode cX21_bars_2 101 = .ok (.ireturn, 1) := dk_172 (dk_at dksX21_bars_2_4 7 rfl rfl)
theorem dX21_bars_2_102 : decode cX21_bars_2 102 = .ok (.aload_n 0, 1) := dk_42 (dk_at dksX21_bars_2_4 8 rfl rfl)
theorem dX21_bars_2_103 : decode cX21_bars_2 103 = .ok (.getfield 24, 3) := dk_180 0 24 (dk_at dksX21_bars_2_4 9 rfl rfl)
theorem dX21_bars_2_106 : decode cX21_bars_2 106 = .ok (.ifCond .eq 43, 3) := dk_153 0 43 (dk_at dksX21_bars_2_4 12 rfl rfl)
theorem dX21_bars_2_109 : decode cX21_bars_2 109 = .ok (.aload 4, 2) := dk_25 4 (dk_at dksX21_bars_2_4 15 rfl rfl)
theorem dX21_bars_2_111 : decode cX21_bars_2 111 = .ok (.aload 6, 2) := dk_25 6 (dk_at dksX21_bars_2_4 17 rfl rfl)
theorem dX21_bars_2_113 : decode cX21_bars_2 113 = .ok (.getfield 57, 3) := dk_180 0 57 (dk_at dksX21_bars_2_4 19 rfl rfl)
theorem dX21_bars_2_116 : decode cX21_bars_2 116 = .ok (.iaload, 1) := dk_46 (dk_at dksX21_bars_2_4 22 rfl rfl)
theorem dX21_bars_2_117 : decode cX21_bars_2 117 = .ok (.aload 4, 2) := dk_25 4 (dk_at dksX21_bars_2_5 0 rfl rfl)
theorem dX21_bars_2_119 : decode cX21_bars_2 119 = .ok (.aload 5, 2) := dk_25 5 (dk_at dksX21_bars_2_5 2 rfl rfl)
theorem dX21_bars_2_121 : decode cX21_bars_2 121 = .ok (.getfield 60, 3) := dk_180 0 60 (dk_at dksX21_bars_2_5 4 rfl rfl)
theorem dX21_bars_2_124 : decode cX21_bars_2 124 = .ok (.iaload, 1) := dk_46 (dk_at dksX21_bars_2_5 7 rfl rfl)
theorem dX21_bars_2_125 : decode cX21_bars_2 125 = .ok (.if_icmp .ne 22, 3) := dk_160 0 22 (dk_at dksX21_bars_2_5 8 rfl rfl)
theorem dX21_bars_2_128 : decode cX21_bars_2 128 = .ok (.aload 4, 2) := dk_25 4 (dk_at dksX21_bars_2_5 11 rfl rfl)
theorem dX21_bars_2_130 : decode cX21_bars_2 130 = .ok (.aload 6, 2) := dk_25 6 (dk_at dksX21_bars_2_5 13 rfl rfl)
theorem dX21_bars_2_132 : decode cX21_bars_2 132 = .ok (.getfield 60, 3) := dk_180 0 60 (dk_at dksX21_bars_2_5 15 rfl rfl)
theorem dX21_bars_2_135 : decode cX21_bars_2 135 = .ok (.iaload, 1) := dk_46 (dk_at dksX21_bars_2_5 18 rfl rfl)
theorem dX21_bars_2_136 : decode cX21_bars_2 136 = .ok (.aload 4, 2) := dk_25 4 (dk_at dksX21_bars_2_5 19 rfl rfl)
theorem dX21_bars_2_138 : decode cX21_bars_2 138 = .ok (.aload 5, 2) := dk_25 5 (dk_at dksX21_bars_2_5 21 rfl rfl)
theorem dX21_bars_2_140 : decode cX21_bars_2 140 = .ok (.getfield 57, 3) := dk_180 0 57 (dk_at dksX21_bars_2_6 0 rfl rfl)
theorem dX21_bars_2_143 : decode cX21_bars_2 143 = .ok (.iaload, 1) := dk_46 (dk_at dksX21_bars_2_6 3 rfl rfl)
theorem dX21_bars_2_144 : decode cX21_bars_2 144 = .ok (.if_icmp .eq 5, 3) := dk_159 0 5 (dk_at dksX21_bars_2_6 4 rfl rfl)
theorem dX21_bars_2_147 : decode cX21_bars_2 147 = .ok (.iconst 0, 1) := dk_3 (dk_at dksX21_bars_2_6 7 rfl rfl)
theorem dX21_bars_2_148 : decode cX21_bars_2 148 = .ok (.ireturn, 1) := dk_172 (dk_at dksX21_bars_2_6 8 rfl rfl)
theorem dX21_bars_2_149 : decode cX21_bars_2 149 = .ok (.aload_n 0, 1) := dk_42 (dk_at dksX21_bars_2_6 9 rfl rfl)
theorem dX21_bars_2_150 : decode cX21_bars_2 150 = .ok (.getfield 28, 3) := dk_180 0 28 (dk_at dksX21_bars_2_6 10 rfl rfl)
theorem dX21_bars_2_153 : decode cX21_bars_2 153 = .ok (.ifCond .eq 16, 3) := dk_153 0 16 (dk_at dksX21_bars_2_6 13 rfl rfl)
theorem dX21_bars_2_156 : decode cX21_bars_2 156 = .ok (.aload 5, 2) := dk_25 5 (dk_at dksX21_bars_2_6 16 rfl rfl)
theorem dX21_bars_2_158 : decode cX21_bars_2 158 = .ok (.getfield 42, 3) := dk_180 0 42 (dk_at dksX21_bars_2_6 18 rfl rfl)
theorem dX21_bars_2_161 : decode cX21_bars_2 161 = .ok (.aload 6, 2) := dk_25 6 (dk_at dksX21_bars_2_6 21 rfl rfl)
theorem dX21_bars_2_163 : decode cX21_bars_2 163 = .ok (.getfield 42, 3) := dk_180 0 42 (dk_at dksX21_bars_2_7 0 rfl rfl)
theorem dX21_bars_2_166 : decode cX21_bars_2 166 = .ok (.if_icmp .ne 27, 3) := dk_160 0 27 (dk_at dksX21_bars_2_7 3 rfl rfl)
theorem dX21_bars_2_169 : decode cX21_bars_2 169 = .ok (.aload_n 0, 1) := dk_42 (dk_at dksX21_bars_2_7 6 rfl rfl)
theorem dX21_bars_2_170 : decode cX21_bars_2 170 = .ok (.getfield 31, 3) := dk_180 0 31 (dk_at dksX21_bars_2_7 7 rfl rfl)
theorem dX21_bars_2_173 : decode cX21_bars_2 173 = .ok (.ifCond .eq 16, 3) := dk_153 0 16 (dk_at dksX21_bars_2_7 10 rfl rfl)
theorem dX21_bars_2_176 : decode cX21_bars_2 176 = .ok (.aload 6, 2) := dk_25 6 (dk_at dksX21_bars_2_7 13 rfl rfl)
theorem dX21_bars_2_178 : decode cX21_bars_2 178 = .ok (.invokevirtual 63, 3) := dk_182 0 63 (dk_at dksX21_bars_2_7 15 rfl rfl)
theorem dX21_bars_2_181 : decode cX21_bars_2 181 = .ok (.aload 5, 2) := dk_25 5 (dk_at dksX21_bars_2_7 18 rfl rfl)
theorem dX21_bars_2_183 : decode cX21_bars_2 183 = .ok (.invokevirtual 63, 3) := dk_182 0 63 (dk_at dksX21_bars_2_7 20 rfl rfl)
theorem dX21_bars_2_186 : decode cX21_bars_2 186 = .ok (.if_icmp .le 7, 3) := dk_164 0 7 (dk_at dksX21_bars_2_8 0 rfl rfl)
theorem dX21_bars_2_189 : decode cX21_bars_2 189 = .ok (.iconst 1, 1) := dk_4 (dk_at dksX21_bars_2_8 3 rfl rfl)
theorem dX21_bars_2_190 : decode cX21_bars_2 190 = .ok (.goto 4, 3) := dk_167 0 4 (dk_at dksX21_bars_2_8 4 rfl rfl)
theorem dX21_bars_2_193 : decode cX21_bars_2 193 = .ok (.iconst 0, 1) := dk_3 (dk_at dksX21_bars_2_8 7 rfl rfl)
theorem dX21_bars_2_194 : decode cX21_bars_2 194 = .ok (.ireturn, 1) := dk_172 (dk_at dksX21_bars_2_8 8 rfl rfl)
theorem q113 : (Jvm.Cond.initialized "LoanNames$Rule") ∈ lw_all := lw_g (lw_at lw_m1 23 rfl) rfl
theorem q168 : (Jvm.Cond.fieldLink "LoanNames$Rule" (43 : Nat) "LoanNames$LeafRow" "leaves" "[LLoanNames$Leaf;") ∈ lw_all := lw_g (lw_at lw_m1 78 rfl) rfl
theorem q519 : (Jvm.Cond.fieldLink "LoanNames$Rule" (60 : Nat) "LoanNames$Leaf" "a" "I") ∈ lw_all := lw_g (lw_at lw_m2 189 rfl) rfl
theorem q526 : (Jvm.Cond.fieldLink "LoanNames$Rule" (57 : Nat) "LoanNames$Leaf" "b" "I") ∈ lw_all := lw_g (lw_at lw_m2 196 rfl) rfl
theorem q531 : (Jvm.Cond.fieldLink "LoanNames$Rule" (42 : Nat) "LoanNames$Leaf" "thing" "I") ∈ lw_all := lw_g (lw_at lw_m2 201 rfl) rfl
theorem q829 : (Jvm.Cond.instantiable "LoanNames$Rule" (8 : Nat)) ∈ lw_all := lw_g (lw_at lw_m4 19 rfl) rfl
theorem q831 : (Jvm.Cond.instanceMethod ({ cls := "LoanNames$Rule", name := "<init>", desc := "(IIIIZZZI)V" } : Jvm.MethodName)) ∈ lw_all := lw_g (lw_at lw_m4 21 rfl) rfl
theorem q832 : (Jvm.Cond.code ({ cls := "LoanNames$Rule", name := "<init>", desc := "(IIIIZZZI)V" } : Jvm.MethodName) prog_19_method_1_code (9 : Nat) (Option.none : Option Jvm.ClassFile.FieldType)) ∈ lw_all := lw_g (lw_at lw_m4 22 rfl) rfl
theorem q833 : (Jvm.Cond.methodLink "LoanNames$Rule" (3 : Nat) ({ cls := "java/lang/Object", name := "<init>", desc := "()V" } : Jvm.MethodName)) ∈ lw_all := lw_g (lw_at lw_m4 23 rfl) rfl
theorem q834 : (Jvm.Cond.fieldLink "LoanNames$Rule" (9 : Nat) "LoanNames$Rule" "form" "I") ∈ lw_all := lw_g (lw_at lw_m4 24 rfl) rfl
theorem q835 : (Jvm.Cond.fieldLink "LoanNames$Rule" (15 : Nat) "LoanNames$Rule" "thing" "I") ∈ lw_all := lw_g (lw_at lw_m4 25 rfl) rfl
theorem q836 : (Jvm.Cond.fieldLink "LoanNames$Rule" (18 : Nat) "LoanNames$Rule" "thenForm" "I") ∈ lw_all := lw_g (lw_at lw_m4 26 rfl) rfl
theorem q839 : (Jvm.Cond.fieldLink "LoanNames$Rule" (21 : Nat) "LoanNames$Rule" "thenThing" "I") ∈ lw_all := lw_g (lw_at lw_m4 29 rfl) rfl
theorem q840 : (Jvm.Cond.fieldLink "LoanNames$Rule" (34 : Nat) "LoanNames$Rule" "within" "I") ∈ lw_all := lw_g (lw_at lw_m4 30 rfl) rfl
theorem q841 : (Jvm.Cond.fieldLink "LoanNames$Rule" (24 : Nat) "LoanNames$Rule" "back" "Z") ∈ lw_all := lw_g (lw_at lw_m4 31 rfl) rfl
theorem q842 : (Jvm.Cond.fieldLink "LoanNames$Rule" (28 : Nat) "LoanNames$Rule" "same" "Z") ∈ lw_all := lw_g (lw_at lw_m4 32 rfl) rfl
theorem q843 : (Jvm.Cond.fieldLink "LoanNames$Rule" (31 : Nat) "LoanNames$Rule" "more" "Z") ∈ lw_all := lw_g (lw_at lw_m4 33 rfl) rfl
theorem q844 : (Jvm.Cond.laysFinal "LoanNames$Rule" "LoanNames$Rule" "form" "I") ∈ lw_all := lw_g (lw_at lw_m4 34 rfl) rfl
theorem q845 : (Jvm.Cond.soleField "LoanNames$Rule" "form") ∈ lw_all := lw_g (lw_at lw_m4 35 rfl) rfl
theorem q846 : (Jvm.Cond.laysFinal "LoanNames$Rule" "LoanNames$Rule" "thing" "I") ∈ lw_all := lw_g (lw_at lw_m4 36 rfl) rfl
theorem q847 : (Jvm.Cond.soleField "LoanNames$Rule" "thing") ∈ lw_all := lw_g (lw_at lw_m4 37 rfl) rfl
theorem q848 : (Jvm.Cond.laysFinal "LoanNames$Rule" "LoanNames$Rule" "thenForm" "I") ∈ lw_all := lw_g (lw_at lw_m4 38 rfl) rfl
theorem q849 : (Jvm.Cond.soleField "LoanNames$Rule" "thenForm") ∈ lw_all := lw_g (lw_at lw_m4 39 rfl) rfl
theorem q850 : (Jvm.Cond.laysFinal "LoanNames$Rule" "LoanNames$Rule" "thenThing" "I") ∈ lw_all := lw_g (lw_at lw_m4 40 rfl) rfl
theorem q851 : (Jvm.Cond.soleField "LoanNames$Rule" "thenThing") ∈ lw_all := lw_g (lw_at lw_m4 41 rfl) rfl
theorem q852 : (Jvm.Cond.laysFinal "LoanNames$Rule" "LoanNames$Rule" "within" "I") ∈ lw_all := lw_g (lw_at lw_m4 42 rfl) rfl
theorem q853 : (Jvm.Cond.soleField "LoanNames$Rule" "within") ∈ lw_all := lw_g (lw_at lw_m4 43 rfl) rfl
theorem q854 : (Jvm.Cond.laysFinal "LoanNames$Rule" "LoanNames$Rule" "back" "Z") ∈ lw_all := lw_g (lw_at lw_m4 44 rfl) rfl
theorem q855 : (Jvm.Cond.soleField "LoanNames$Rule" "back") ∈ lw_all := lw_g (lw_at lw_m4 45 rfl) rfl
theorem q856 : (Jvm.Cond.laysFinal "LoanNames$Rule" "LoanNames$Rule" "same" "Z") ∈ lw_all := lw_g (lw_at lw_m4 46 rfl) rfl
theorem q857 : (Jvm.Cond.soleField "LoanNames$Rule" "same") ∈ lw_all := lw_g (lw_at lw_m4 47 rfl) rfl
theorem q858 : (Jvm.Cond.laysFinal "LoanNames$Rule" "LoanNames$Rule" "more" "Z") ∈ lw_all := lw_g (lw_at lw_m4 48 rfl) rfl
theorem q859 : (Jvm.Cond.soleField "LoanNames$Rule" "more") ∈ lw_all := lw_g (lw_at lw_m4 49 rfl) rfl
theorem q860 : (Jvm.Cond.superclass "LoanNames$Rule" "java/lang/Object") ∈ lw_all := lw_g (lw_at lw_m4 50 rfl) rfl
theorem q1308 : (Jvm.Cond.instanceMethod ({ cls := "LoanNames$Rule", name := "bars", desc := "(LLoanNames$LeafRow;I)Z" } : Jvm.MethodName)) ∈ lw_all := lw_g (lw_at lw_m6 18 rfl) rfl
theorem q1309 : (Jvm.Cond.selects "LoanNames$Rule" ({ cls := "LoanNames$Rule", name := "bars", desc := "(LLoanNames$LeafRow;I)Z" } : Jvm.MethodName) ({ cls := "LoanNames$Rule", name := "bars", desc := "(LLoanNames$LeafRow;I)Z" } : Jvm.MethodName)) ∈ lw_all := lw_g (lw_at lw_m6 19 rfl) rfl
theorem q1310 : (Jvm.Cond.code ({ cls := "LoanNames$Rule", name := "bars", desc := "(LLoanNames$LeafRow;I)Z" } : Jvm.MethodName) prog_19_method_3_code (3 : Nat) (Option.some Jvm.ClassFile.FieldType.boolean)) ∈ lw_all := lw_g (lw_at lw_m6 20 rfl) rfl
theorem q1311 : (Jvm.Cond.methodLink "LoanNames$Rule" (49 : Nat) ({ cls := "LoanNames$Rule", name := "is", desc := "(LLoanNames$Leaf;II)Z" } : Jvm.MethodName)) ∈ lw_all := lw_g (lw_at lw_m6 21 rfl) rfl
theorem q1312 : (Jvm.Cond.static ({ cls := "LoanNames$Rule", name := "is", desc := "(LLoanNames$Leaf;II)Z" } : Jvm.MethodName)) ∈ lw_all := lw_g (lw_at lw_m6 22 rfl) rfl
theorem q1313 : (Jvm.Cond.code ({ cls := "LoanNames$Rule", name := "is", desc := "(LLoanNames$Leaf;II)Z" } : Jvm.MethodName) prog_19_method_2_code (3 : Nat) (Option.some Jvm.ClassFile.FieldType.boolean)) ∈ lw_all := lw_g (lw_at lw_m6 23 rfl) rfl
theorem q1314 : (Jvm.Cond.methodLink "LoanNames$Rule" (37 : Nat) ({ cls := "LoanNames$Leaf", name := "form", desc := "()I" } : Jvm.MethodName)) ∈ lw_all := lw_g (lw_at lw_m6 24 rfl) rfl
theorem q1320 : (Jvm.Cond.instanceMethod ({ cls := "LoanNames$Rule", name := "bars", desc := "(LLoanNames$LeafRow;II[I)Z" } : Jvm.MethodName)) ∈ lw_all := lw_g (lw_at lw_m6 30 rfl) rfl
theorem q1321 : (Jvm.Cond.selects "LoanNames$Rule" ({ cls := "LoanNames$Rule", name := "bars", desc := "(LLoanNames$LeafRow;II[I)Z" } : Jvm.MethodName) ({ cls := "LoanNames$Rule", name := "bars", desc := "(LLoanNames$LeafRow;II[I)Z" } : Jvm.MethodName)) ∈ lw_all := lw_g (lw_at lw_m6 31 rfl) rfl
theorem q1322 : (Jvm.Cond.code ({ cls := "LoanNames$Rule", name := "bars", desc := "(LLoanNames$LeafRow;II[I)Z" } : Jvm.MethodName) prog_19_method_4_code (8 : Nat) (Option.some Jvm.ClassFile.FieldType.boolean)) ∈ lw_all := lw_g (lw_at lw_m6 32 rfl) rfl
theorem q1323 : (Jvm.Cond.methodLink "LoanNames$Rule" (53 : Nat) ({ cls := "LoanNames$LeafRow", name := "at", desc := "(I)I" } : Jvm.MethodName)) ∈ lw_all := lw_g (lw_at lw_m6 33 rfl) rfl
theorem q1324 : (Jvm.Cond.methodLink "LoanNames$Rule" (63 : Nat) ({ cls := "LoanNames$Leaf", name := "forCoin", desc := "()I" } : Jvm.MethodName)) ∈ lw_all := lw_g (lw_at lw_m6 34 rfl) rfl
theorem in_X21 : ∀ w ∈ wsX210, w ∈ lw_all := lw_in wsX210 [844, 846, 848, 850, 852, 854, 856, 858] (by decide +kernel) (by decide +kernel)
/-! LoanNames$Plain -/
set_option maxRecDepth 100000
def RX22 : String := "LoanNames$Plain"
def TX22 : u_T := fun k => match k with
  | _ => ("LoanNames$Plain", "steps", "I", false)
def tyX22 : Nat → FieldType := fun k => match k with
  | _ => .int
abbrev wsX220 : List Cond := u_ws RX22 TX22 1
theorem nmX22 : ∀ a, a < 1 → ∀ b, b < 1 → a ≠ b → (TX22 a).2.1 ≠ (TX22 b).2.1 := by decide +kernel
theorem tyX22_ok : ∀ k, k < 1 → parseFieldDescriptor (TX22 k).2.2.1 = some (tyX22 k) := by decide +kernel
abbrev cX22_init : ByteArray := prog_17_method_1_code
def yX22_init : MethodName := ⟨RX22, "<init>", "()V"⟩
theorem dX22_init_0 : decode cX22_init 0 = .ok (.aload_n 0, 1) := by decide +kernel
theorem dX22_init_1 : decode cX22_init 1 = .ok (.invokespecial 1, 3) := by decide +kernel
theorem dX22_init_4 : decode cX22_init 4 = .ok (.return_, 1) := by decide +kernel
theorem q114 : (Jvm.Cond.initialized "LoanNames$Plain") ∈ lw_all := lw_g (lw_at lw_m1 24 rfl) rfl
theorem q931 : (Jvm.Cond.instantiable "LoanNames$Plain" (1 : Nat)) ∈ lw_all := lw_g (lw_at lw_m4 121 rfl) rfl
theorem q933 : (Jvm.Cond.instanceMethod ({ cls := "LoanNames$Plain", name := "<init>", desc := "()V" } : Jvm.MethodName)) ∈ lw_all := lw_g (lw_at lw_m4 123 rfl) rfl
theorem q934 : (Jvm.Cond.code ({ cls := "LoanNames$Plain", name := "<init>", desc := "()V" } : Jvm.MethodName) prog_17_method_1_code (1 : Nat) (Option.none : Option Jvm.ClassFile.FieldType)) ∈ lw_all := lw_g (lw_at lw_m4 124 rfl) rfl
theorem q935 : (Jvm.Cond.methodLink "LoanNames$Plain" (1 : Nat) ({ cls := "java/lang/Object", name := "<init>", desc := "()V" } : Jvm.MethodName)) ∈ lw_all := lw_g (lw_at lw_m4 125 rfl) rfl
theorem q940 : (Jvm.Cond.lays "LoanNames$Plain" "LoanNames$Plain" "steps" "I") ∈ lw_all := lw_g (lw_at lw_m4 130 rfl) rfl
theorem q941 : (Jvm.Cond.soleField "LoanNames$Plain" "steps") ∈ lw_all := lw_g (lw_at lw_m4 131 rfl) rfl
theorem q942 : (Jvm.Cond.superclass "LoanNames$Plain" "java/lang/Object") ∈ lw_all := lw_g (lw_at lw_m4 132 rfl) rfl
theorem in_X22 : ∀ w ∈ wsX220, w ∈ lw_all := lw_in wsX220 [940] (by decide +kernel) (by decide +kernel)
/-! java/lang/Math -/
set_option maxRecDepth 100000
def RJ0 : String := "java/lang/Math"
abbrev cJ0_max : ByteArray := prog_26_method_65_code
def yJ0_max : MethodName := ⟨RJ0, "max", "(II)I"⟩
def dkwJ0_max_0 : List UInt8 := [26, 27, 161, 0, 7, 26, 167, 0, 4, 27, 172]
abbrev dktJ0_max_0 : List UInt8 := dkwJ0_max_0 ++ []
theorem dksJ0_max_0 : cJ0_max.data.toList.drop 0 = dktJ0_max_0 := by decide +kernel
theorem dJ0_max_0 : decode cJ0_max 0 = .ok (.iload_n 0, 1) := dk_26 (dk_at dksJ0_max_0 0 rfl rfl)
theorem dJ0_max_1 : decode cJ0_max 1 = .ok (.iload_n 1, 1) := dk_27 (dk_at dksJ0_max_0 1 rfl rfl)
theorem dJ0_max_2 : decode cJ0_max 2 = .ok (.if_icmp .lt 7, 3) := dk_161 0 7 (dk_at dksJ0_max_0 2 rfl rfl)
theorem dJ0_max_5 : decode cJ0_max 5 = .ok (.iload_n 0, 1) := dk_26 (dk_at dksJ0_max_0 5 rfl rfl)
theorem dJ0_max_6 : decode cJ0_max 6 = .ok (.goto 4, 3) := dk_167 0 4 (dk_at dksJ0_max_0 6 rfl rfl)
theorem dJ0_max_9 : decode cJ0_max 9 = .ok (.iload_n 1, 1) := dk_27 (dk_at dksJ0_max_0 9 rfl rfl)
theorem dJ0_max_10 : decode cJ0_max 10 = .ok (.ireturn, 1) := dk_172 (dk_at dksJ0_max_0 10 rfl rfl)
abbrev cJ0_abs : ByteArray := prog_26_method_59_code
def yJ0_abs : MethodName := ⟨RJ0, "abs", "(I)I"⟩
def dkwJ0_abs_0 : List UInt8 := [26, 156, 0, 8, 26, 116, 167, 0, 4, 26, 172]
abbrev dktJ0_abs_0 : List UInt8 := dkwJ0_abs_0 ++ []
theorem dksJ0_abs_0 : cJ0_abs.data.toList.drop 0 = dktJ0_abs_0 := by decide +kernel
theorem dJ0_abs_0 : decode cJ0_abs 0 = .ok (.iload_n 0, 1) := dk_26 (dk_at dksJ0_abs_0 0 rfl rfl)
theorem dJ0_abs_1 : decode cJ0_abs 1 = .ok (.ifCond .ge 8, 3) := dk_156 0 8 (dk_at dksJ0_abs_0 1 rfl rfl)
theorem dJ0_abs_4 : decode cJ0_abs 4 = .ok (.iload_n 0, 1) := dk_26 (dk_at dksJ0_abs_0 4 rfl rfl)
theorem dJ0_abs_5 : decode cJ0_abs 5 = .ok (.ineg, 1) := dk_116 (dk_at dksJ0_abs_0 5 rfl rfl)
theorem dJ0_abs_6 : decode cJ0_abs 6 = .ok (.goto 4, 3) := dk_167 0 4 (dk_at dksJ0_abs_0 6 rfl rfl)
theorem dJ0_abs_9 : decode cJ0_abs 9 = .ok (.iload_n 0, 1) := dk_26 (dk_at dksJ0_abs_0 9 rfl rfl)
theorem dJ0_abs_10 : decode cJ0_abs 10 = .ok (.ireturn, 1) := dk_172 (dk_at dksJ0_abs_0 10 rfl rfl)
theorem q115 : (Jvm.Cond.initialized "java/lang/Math") ∈ lw_all := lw_g (lw_at lw_m1 25 rfl) rfl
theorem q1089 : (Jvm.Cond.static ({ cls := "java/lang/Math", name := "max", desc := "(II)I" } : Jvm.MethodName)) ∈ lw_all := lw_g (lw_at lw_m5 39 rfl) rfl
theorem q1090 : (Jvm.Cond.code ({ cls := "java/lang/Math", name := "max", desc := "(II)I" } : Jvm.MethodName) prog_26_method_65_code (2 : Nat) (Option.some Jvm.ClassFile.FieldType.int)) ∈ lw_all := lw_g (lw_at lw_m5 40 rfl) rfl
theorem q1393 : (Jvm.Cond.static ({ cls := "java/lang/Math", name := "abs", desc := "(I)I" } : Jvm.MethodName)) ∈ lw_all := lw_g (lw_at lw_m6 103 rfl) rfl
theorem q1394 : (Jvm.Cond.code ({ cls := "java/lang/Math", name := "abs", desc := "(I)I" } : Jvm.MethodName) prog_26_method_59_code (1 : Nat) (Option.some Jvm.ClassFile.FieldType.int)) ∈ lw_all := lw_g (lw_at lw_m6 104 rfl) rfl
/-! java/lang/Integer -/
set_option maxRecDepth 100000
def RJ1 : String := "java/lang/Integer"
abbrev cJ1_bitCount : ByteArray := prog_25_method_49_code
def yJ1_bitCount : MethodName := ⟨RJ1, "bitCount", "(I)I"⟩
def dkwJ1_bitCount_2 : List UInt8 := [26, 16, 63, 126, 172]
abbrev dktJ1_bitCount_2 : List UInt8 := dkwJ1_bitCount_2 ++ []
def dkwJ1_bitCount_1 : List UInt8 := [26, 26, 7, 124, 96, 19, 1, 11, 126, 59, 26, 26, 16, 8, 124, 96, 59, 26, 26, 16, 16, 124, 96, 59]
abbrev dktJ1_bitCount_1 : List UInt8 := dkwJ1_bitCount_1 ++ dktJ1_bitCount_2
def dkwJ1_bitCount_0 : List UInt8 := [26, 26, 4, 124, 19, 1, 9, 126, 100, 59, 26, 19, 1, 10, 126, 26, 5, 124, 19, 1, 10, 126, 96, 59]
abbrev dktJ1_bitCount_0 : List UInt8 := dkwJ1_bitCount_0 ++ dktJ1_bitCount_1
theorem dksJ1_bitCount_0 : cJ1_bitCount.data.toList.drop 0 = dktJ1_bitCount_0 := by decide +kernel
theorem dksJ1_bitCount_1 : cJ1_bitCount.data.toList.drop 24 = dktJ1_bitCount_1 := dk_seg dksJ1_bitCount_0 24 rfl rfl
theorem dksJ1_bitCount_2 : cJ1_bitCount.data.toList.drop 48 = dktJ1_bitCount_2 := dk_seg dksJ1_bitCount_1 24 rfl rfl
theorem dJ1_bitCount_0 : decode cJ1_bitCount 0 = .ok (.iload_n 0, 1) := dk_26 (dk_at dksJ1_bitCount_0 0 rfl rfl)
theorem dJ1_bitCount_1 : decode cJ1_bitCount 1 = .ok (.iload_n 0, 1) := dk_26 (dk_at dksJ1_bitCount_0 1 rfl rfl)
theorem dJ1_bitCount_2 : decode cJ1_bitCount 2 = .ok (.iconst 1, 1) := dk_4 (dk_at dksJ1_bitCount_0 2 rfl rfl)
theorem dJ1_bitCount_3 : decode cJ1_bitCount 3 = .ok (.iushr, 1) := dk_124 (dk_at dksJ1_bitCount_0 3 rfl rfl)
theorem dJ1_bitCount_4 : decode cJ1_bitCount 4 = .ok (.ldc_w 265, 3) := dk_19 1 9 (dk_at dksJ1_bitCount_0 4 rfl rfl)
theorem dJ1_bitCount_7 : decode cJ1_bitCount 7 = .ok (.iand, 1) := dk_126 (dk_at dksJ1_bitCount_0 7 rfl rfl)
theorem dJ1_bitCount_8 : decode cJ1_bitCount 8 = .ok (.isub, 1) := dk_100 (dk_at dksJ1_bitCount_0 8 rfl rfl)
theorem dJ1_bitCount_9 : decode cJ1_bitCount 9 = .ok (.istore_n 0, 1) := dk_59 (dk_at dksJ1_bitCount_0 9 rfl rfl)
theorem dJ1_bitCount_10 : decode cJ1_bitCount 10 = .ok (.iload_n 0, 1) := dk_26 (dk_at dksJ1_bitCount_0 10 rfl rfl)
theorem dJ1_bitCount_11 : decode cJ1_bitCount 11 = .ok (.ldc_w 266, 3) := dk_19 1 10 (dk_at dksJ1_bitCount_0 11 rfl rfl)
theorem dJ1_bitCount_14 : decode cJ1_bitCount 14 = .ok (.iand, 1) := dk_126 (dk_at dksJ1_bitCount_0 14 rfl rfl)
theorem dJ1_bitCount_15 : decode cJ1_bitCount 15 = .ok (.iload_n 0, 1) := dk_26 (dk_at dksJ1_bitCount_0 15 rfl rfl)
theorem dJ1_bitCount_16 : decode cJ1_bitCount 16 = .ok (.iconst 2, 1) := dk_5 (dk_at dksJ1_bitCount_0 16 rfl rfl)
theorem dJ1_bitCount_17 : decode cJ1_bitCount 17 = .ok (.iushr, 1) := dk_124 (dk_at dksJ1_bitCount_0 17 rfl rfl)
theorem dJ1_bitCount_18 : decode cJ1_bitCount 18 = .ok (.ldc_w 266, 3) := dk_19 1 10 (dk_at dksJ1_bitCount_0 18 rfl rfl)
theorem dJ1_bitCount_21 : decode cJ1_bitCount 21 = .ok (.iand, 1) := dk_126 (dk_at dksJ1_bitCount_0 21 rfl rfl)
theorem dJ1_bitCount_22 : decode cJ1_bitCount 22 = .ok (.iadd, 1) := dk_96 (dk_at dksJ1_bitCount_0 22 rfl rfl)
theorem dJ1_bitCount_23 : decode cJ1_bitCount 23 = .ok (.istore_n 0, 1) := dk_59 (dk_at dksJ1_bitCount_0 23 rfl rfl)
theorem dJ1_bitCount_24 : decode cJ1_bitCount 24 = .ok (.iload_n 0, 1) := dk_26 (dk_at dksJ1_bitCount_1 0 rfl rfl)
theorem dJ1_bitCount_25 : decode cJ1_bitCount 25 = .ok (.iload_n 0, 1) := dk_26 (dk_at dksJ1_bitCount_1 1 rfl rfl)
theorem dJ1_bitCount_26 : decode cJ1_bitCount 26 = .ok (.iconst 4, 1) := dk_7 (dk_at dksJ1_bitCount_1 2 rfl rfl)
theorem dJ1_bitCount_27 : decode cJ1_bitCount 27 = .ok (.iushr, 1) := dk_124 (dk_at dksJ1_bitCount_1 3 rfl rfl)
theorem dJ1_bitCount_28 : decode cJ1_bitCount 28 = .ok (.iadd, 1) := dk_96 (dk_at dksJ1_bitCount_1 4 rfl rfl)
theorem dJ1_bitCount_29 : decode cJ1_bitCount 29 = .ok (.ldc_w 267, 3) := dk_19 1 11 (dk_at dksJ1_bitCount_1 5 rfl rfl)
theorem dJ1_bitCount_32 : decode cJ1_bitCount 32 = .ok (.iand, 1) := dk_126 (dk_at dksJ1_bitCount_1 8 rfl rfl)
theorem dJ1_bitCount_33 : decode cJ1_bitCount 33 = .ok (.istore_n 0, 1) := dk_59 (dk_at dksJ1_bitCount_1 9 rfl rfl)
theorem dJ1_bitCount_34 : decode cJ1_bitCount 34 = .ok (.iload_n 0, 1) := dk_26 (dk_at dksJ1_bitCount_1 10 rfl rfl)
theorem dJ1_bitCount_35 : decode cJ1_bitCount 35 = .ok (.iload_n 0, 1) := dk_26 (dk_at dksJ1_bitCount_1 11 rfl rfl)
theorem dJ1_bitCount_36 : decode cJ1_bitCount 36 = .ok (.bipush 8, 2) := dk_16 8 (dk_at dksJ1_bitCount_1 12 rfl rfl)
theorem dJ1_bitCount_38 : decode cJ1_bitCount 38 = .ok (.iushr, 1) := dk_124 (dk_at dksJ1_bitCount_1 14 rfl rfl)
theorem dJ1_bitCount_39 : decode cJ1_bitCount 39 = .ok (.iadd, 1) := dk_96 (dk_at dksJ1_bitCount_1 15 rfl rfl)
theorem dJ1_bitCount_40 : decode cJ1_bitCount 40 = .ok (.istore_n 0, 1) := dk_59 (dk_at dksJ1_bitCount_1 16 rfl rfl)
theorem dJ1_bitCount_41 : decode cJ1_bitCount 41 = .ok (.iload_n 0, 1) := dk_26 (dk_at dksJ1_bitCount_1 17 rfl rfl)
theorem dJ1_bitCount_42 : decode cJ1_bitCount 42 = .ok (.iload_n 0, 1) := dk_26 (dk_at dksJ1_bitCount_1 18 rfl rfl)
theorem dJ1_bitCount_43 : decode cJ1_bitCount 43 = .ok (.bipush 16, 2) := dk_16 16 (dk_at dksJ1_bitCount_1 19 rfl rfl)
theorem dJ1_bitCount_45 : decode cJ1_bitCount 45 = .ok (.iushr, 1) := dk_124 (dk_at dksJ1_bitCount_1 21 rfl rfl)
theorem dJ1_bitCount_46 : decode cJ1_bitCount 46 = .ok (.iadd, 1) := dk_96 (dk_at dksJ1_bitCount_1 22 rfl rfl)
theorem dJ1_bitCount_47 : decode cJ1_bitCount 47 = .ok (.istore_n 0, 1) := dk_59 (dk_at dksJ1_bitCount_1 23 rfl rfl)
theorem dJ1_bitCount_48 : decode cJ1_bitCount 48 = .ok (.iload_n 0, 1) := dk_26 (dk_at dksJ1_bitCount_2 0 rfl rfl)
theorem dJ1_bitCount_49 : decode cJ1_bitCount 49 = .ok (.bipush 63, 2) := dk_16 63 (dk_at dksJ1_bitCount_2 1 rfl rfl)
theorem dJ1_bitCount_51 : decode cJ1_bitCount 51 = .ok (.iand, 1) := dk_126 (dk_at dksJ1_bitCount_2 3 rfl rfl)
theorem dJ1_bitCount_52 : decode cJ1_bitCount 52 = .ok (.ireturn, 1) := dk_172 (dk_at dksJ1_bitCount_2 4 rfl rfl)
theorem q116 : (Jvm.Cond.initialized "java/lang/Integer") ∈ lw_all := lw_g (lw_at lw_m1 26 rfl) rfl
theorem q1203 : (Jvm.Cond.static ({ cls := "java/lang/Integer", name := "bitCount", desc := "(I)I" } : Jvm.MethodName)) ∈ lw_all := lw_g (lw_at lw_m5 153 rfl) rfl
theorem q1204 : (Jvm.Cond.code ({ cls := "java/lang/Integer", name := "bitCount", desc := "(I)I" } : Jvm.MethodName) prog_25_method_49_code (1 : Nat) (Option.some Jvm.ClassFile.FieldType.int)) ∈ lw_all := lw_g (lw_at lw_m5 154 rfl) rfl
theorem q1205 : (Jvm.Cond.constant "java/lang/Integer" (265 : Nat) (1431655765 : Int32)) ∈ lw_all := lw_g (lw_at lw_m5 155 rfl) rfl
theorem q1206 : (Jvm.Cond.constant "java/lang/Integer" (266 : Nat) (858993459 : Int32)) ∈ lw_all := lw_g (lw_at lw_m5 156 rfl) rfl
theorem q1207 : (Jvm.Cond.constant "java/lang/Integer" (267 : Nat) (252645135 : Int32)) ∈ lw_all := lw_g (lw_at lw_m5 157 rfl) rfl
/-! java/lang/Object -/
set_option maxRecDepth 100000
def RJ2 : String := "java/lang/Object"
abbrev cJ2_init : ByteArray := object_method_1_code
def yJ2_init : MethodName := ⟨RJ2, "<init>", "()V"⟩
theorem dJ2_init_0 : decode cJ2_init 0 = .ok (.return_, 1) := by decide +kernel
theorem q123 : (Jvm.Cond.instanceMethod ({ cls := "java/lang/Object", name := "<init>", desc := "()V" } : Jvm.MethodName)) ∈ lw_all := lw_g (lw_at lw_m1 33 rfl) rfl
theorem q124 : (Jvm.Cond.code ({ cls := "java/lang/Object", name := "<init>", desc := "()V" } : Jvm.MethodName) object_method_1_code (1 : Nat) (Option.none : Option Jvm.ClassFile.FieldType)) ∈ lw_all := lw_g (lw_at lw_m1 34 rfl) rfl
theorem q126 : (Jvm.Cond.arrayOver (Jvm.ClassFile.FieldType.object "LoanNames$Deal")) ∈ lw_tbl := lw_at lw_m1 36 rfl
set_option maxRecDepth 100000
theorem q128 : (Jvm.Cond.arrayOver (Jvm.ClassFile.FieldType.object "LoanNames$Law")) ∈ lw_tbl := lw_at lw_m1 38 rfl
theorem q130 : (Jvm.Cond.arrayOver (Jvm.ClassFile.FieldType.object "LoanNames$Bundle")) ∈ lw_tbl := lw_at lw_m1 40 rfl
theorem q137 : (Jvm.Cond.arrayOver (Jvm.ClassFile.FieldType.object "LoanNames$Rule")) ∈ lw_tbl := lw_at lw_m1 47 rfl
theorem q150 : (Jvm.Cond.arrayClass Jvm.ClassFile.FieldType.int) ∈ lw_all := lw_g (lw_at lw_m1 60 rfl) rfl
theorem q151 : (Jvm.Cond.arrayClass Jvm.ClassFile.FieldType.byte) ∈ lw_all := lw_g (lw_at lw_m1 61 rfl) rfl
theorem q165 : (Jvm.Cond.arrayOver (Jvm.ClassFile.FieldType.object "LoanNames$Leaf")) ∈ lw_tbl := lw_at lw_m1 75 rfl
theorem q222 : (Jvm.Cond.arrayClass Jvm.ClassFile.FieldType.long) ∈ lw_all := lw_g (lw_at lw_m1 132 rfl) rfl
theorem q265 : (Jvm.Cond.arrayClass Jvm.ClassFile.FieldType.boolean) ∈ lw_all := lw_g (lw_at lw_m1 175 rfl) rfl
theorem q422 : (Jvm.Cond.arrayOver (Jvm.ClassFile.FieldType.object "LoanNames$Part")) ∈ lw_tbl := lw_at lw_m2 92 rfl
theorem q110 : (Jvm.Cond.initialized "java/lang/System") ∈ lw_all := lw_g (lw_at lw_m1 20 rfl) rfl
set_option maxRecDepth 100000
theorem q684 : (Jvm.Cond.static ({ cls := "java/lang/System", name := "arraycopy", desc := "(Ljava/lang/Object;ILjava/lang/Object;II)V" } : Jvm.MethodName)) ∈ lw_all := lw_g (lw_at lw_m3 114 rfl) rfl
theorem q685 : (Jvm.Cond.native ({ cls := "java/lang/System", name := "arraycopy", desc := "(Ljava/lang/Object;ILjava/lang/Object;II)V" } : Jvm.MethodName)) ∈ lw_all := lw_g (lw_at lw_m3 115 rfl) rfl
