/-! DECODE ROWS BY BYTES: one lemma an opcode; a method's code is cut into short pieces once, and a row reads its own piece alone. -/
set_option maxRecDepth 100000
/-- the code has just these bytes from pc on -/
def DkAt (code : ByteArray) (pc : Nat) (bs : List UInt8) : Prop := ∀ (j : Nat) (b : UInt8), bs[j]? = some b → code.data.toList[pc + j]? = some b
/-- the piece W has the bytes bs from its place j on -/
def dkIn (W : List UInt8) (j : Nat) (bs : List UInt8) : Bool := decide ((W.drop j).take bs.length = bs)
theorem dk_seg {l W T : List UInt8} {o o2 : Nat} (h : l.drop o = W ++ T) (n : Nat) (hn : W.length = n) (ho : o + n = o2) : l.drop o2 = T := by
  subst ho
  rw [← List.drop_drop, h, List.drop_left' hn]
theorem dk_at {code : ByteArray} {W T bs : List UInt8} {o pc : Nat} (h : code.data.toList.drop o = W ++ T) (j : Nat) (hp : o + j = pc) (hw : dkIn W j bs = true) : DkAt code pc bs := by
  subst hp
  intro i b e
  have h1 := of_decide_eq_true hw
  have h2 : i < bs.length := (List.getElem?_eq_some_iff.mp e).1
  have h3 : W[j + i]? = some b := by
    rw [← h1, List.getElem?_take, if_pos h2, List.getElem?_drop] at e
    exact e
  have h4 : j + i < W.length := (List.getElem?_eq_some_iff.mp h3).1
  have h5 : (code.data.toList.drop o)[j + i]? = some b := by
    rw [h, List.getElem?_append_left h4]
    exact h3
  rw [List.getElem?_drop, ← Nat.add_assoc] at h5
  exact h5
theorem dk_u1 {A : ByteArray} {p : Nat} {b : UInt8} (h : A.data.toList[p]? = some b) : (Reader.u1 : Reader DecodeError Nat) A p = .ok (b.toNat, p + 1) := by
  obtain ⟨h1, h2⟩ := List.getElem?_eq_some_iff.mp h
  have h3 : p < A.size := by simpa using h1
  have h4 : A[p]'h3 = b := h2
  have e : (Reader.u1 : Reader DecodeError Nat) A p = (if h : p < A.size then .ok (A[p].toNat, p + 1) else .error (HasTruncated.truncated p)) := by
    show (do if h : p < A.size then do set (p + 1); Pure.pure A[p].toNat else MonadExcept.throw (HasTruncated.truncated p) : Reader DecodeError Nat) A p = _
    by_cases hi : p < A.size
    · rw [dif_pos hi, dif_pos hi]; rfl
    · rw [dif_neg hi, dif_neg hi]; rfl
  rw [e, dif_pos h3, h4]
theorem dk_bind {α β : Type} {r : Reader DecodeError α} {f : α → Reader DecodeError β} {A : ByteArray} {p s : Nat} {a : α} (h : r A p = .ok (a, s)) : (r >>= f) A p = f a A s := by
  show (do let (a, s) ← r A p; f a A s : Except DecodeError (β × Nat)) = _
  rw [h]
  rfl
theorem dk_map {α β : Type} {r : Reader DecodeError α} {g : α → β} {A : ByteArray} {p s : Nat} {a : α} (h : r A p = .ok (a, s)) : (g <$> r) A p = .ok (g a, s) := by
  show (do let (a, s) ← r A p; .ok (g a, s) : Except DecodeError (β × Nat)) = _
  rw [h]
  rfl
theorem dk_u2 {A : ByteArray} {p : Nat} {a b : UInt8} (h : A.data.toList[p]? = some a) (h2 : A.data.toList[p + 1]? = some b) : (Reader.u2 : Reader DecodeError Nat) A p = .ok (a.toNat * 256 + b.toNat, p + 2) := by
  show (Reader.u1 >>= fun hi => Reader.u1 >>= fun lo => Pure.pure (hi * 256 + lo) : Reader DecodeError Nat) A p = _
  rw [dk_bind (dk_u1 h), dk_bind (dk_u1 h2)]
  rfl
theorem dk_of {code : ByteArray} {pc n : Nat} {i : Instr} (h : Decoder.instr pc code pc = .ok (i, pc + n)) : decode code pc = .ok (i, n) := by
  have e : decode code pc = (match Decoder.instr pc code pc with | .error x => .error x | .ok (j, s) => .ok (j, s - pc)) := by
    show (do let (j, s) ← Decoder.instr pc code pc; Pure.pure (j, s - pc) : Except DecodeError (Instr × Nat)) = _
    cases Decoder.instr pc code pc <;> rfl
  rw [e, h]
  show Except.ok (i, pc + n - pc) = _
  rw [Nat.add_sub_cancel_left]
theorem dk_1 {code : ByteArray} {pc : Nat} (h : DkAt code pc [1]) : decode code pc = .ok (.aconst_null, 1) := dk_of ((dk_bind (dk_u1 (h 0 _ rfl))).trans rfl)
theorem dk_2 {code : ByteArray} {pc : Nat} (h : DkAt code pc [2]) : decode code pc = .ok (.iconst (-1), 1) := dk_of ((dk_bind (dk_u1 (h 0 _ rfl))).trans rfl)
theorem dk_3 {code : ByteArray} {pc : Nat} (h : DkAt code pc [3]) : decode code pc = .ok (.iconst 0, 1) := dk_of ((dk_bind (dk_u1 (h 0 _ rfl))).trans rfl)
theorem dk_4 {code : ByteArray} {pc : Nat} (h : DkAt code pc [4]) : decode code pc = .ok (.iconst 1, 1) := dk_of ((dk_bind (dk_u1 (h 0 _ rfl))).trans rfl)
theorem dk_5 {code : ByteArray} {pc : Nat} (h : DkAt code pc [5]) : decode code pc = .ok (.iconst 2, 1) := dk_of ((dk_bind (dk_u1 (h 0 _ rfl))).trans rfl)
theorem dk_6 {code : ByteArray} {pc : Nat} (h : DkAt code pc [6]) : decode code pc = .ok (.iconst 3, 1) := dk_of ((dk_bind (dk_u1 (h 0 _ rfl))).trans rfl)
theorem dk_7 {code : ByteArray} {pc : Nat} (h : DkAt code pc [7]) : decode code pc = .ok (.iconst 4, 1) := dk_of ((dk_bind (dk_u1 (h 0 _ rfl))).trans rfl)
theorem dk_8 {code : ByteArray} {pc : Nat} (h : DkAt code pc [8]) : decode code pc = .ok (.iconst 5, 1) := dk_of ((dk_bind (dk_u1 (h 0 _ rfl))).trans rfl)
theorem dk_9 {code : ByteArray} {pc : Nat} (h : DkAt code pc [9]) : decode code pc = .ok (.lconst 0, 1) := dk_of ((dk_bind (dk_u1 (h 0 _ rfl))).trans rfl)
theorem dk_10 {code : ByteArray} {pc : Nat} (h : DkAt code pc [10]) : decode code pc = .ok (.lconst 1, 1) := dk_of ((dk_bind (dk_u1 (h 0 _ rfl))).trans rfl)
theorem dk_16 {code : ByteArray} {pc : Nat} (a : UInt8) (h : DkAt code pc [16, a]) : decode code pc = .ok (.bipush (Reader.signed 8 a.toNat), 2) := dk_of ((dk_bind (dk_u1 (h 0 _ rfl))).trans ((dk_bind (dk_map (dk_u1 (h 1 _ rfl)))).trans rfl))
theorem dk_17 {code : ByteArray} {pc : Nat} (a b : UInt8) (h : DkAt code pc [17, a, b]) : decode code pc = .ok (.sipush (Reader.signed 16 (a.toNat * 256 + b.toNat)), 3) := dk_of ((dk_bind (dk_u1 (h 0 _ rfl))).trans ((dk_bind (dk_map (dk_u2 (h 1 _ rfl) (h 2 _ rfl)))).trans rfl))
theorem dk_18 {code : ByteArray} {pc : Nat} (a : UInt8) (h : DkAt code pc [18, a]) : decode code pc = .ok (.ldc a.toNat, 2) := dk_of ((dk_bind (dk_u1 (h 0 _ rfl))).trans ((dk_bind (dk_u1 (h 1 _ rfl))).trans rfl))
theorem dk_19 {code : ByteArray} {pc : Nat} (a b : UInt8) (h : DkAt code pc [19, a, b]) : decode code pc = .ok (.ldc_w (a.toNat * 256 + b.toNat), 3) := dk_of ((dk_bind (dk_u1 (h 0 _ rfl))).trans ((dk_bind (dk_u2 (h 1 _ rfl) (h 2 _ rfl))).trans rfl))
theorem dk_20 {code : ByteArray} {pc : Nat} (a b : UInt8) (h : DkAt code pc [20, a, b]) : decode code pc = .ok (.ldc2_w (a.toNat * 256 + b.toNat), 3) := dk_of ((dk_bind (dk_u1 (h 0 _ rfl))).trans ((dk_bind (dk_u2 (h 1 _ rfl) (h 2 _ rfl))).trans rfl))
theorem dk_21 {code : ByteArray} {pc : Nat} (a : UInt8) (h : DkAt code pc [21, a]) : decode code pc = .ok (.iload a.toNat, 2) := dk_of ((dk_bind (dk_u1 (h 0 _ rfl))).trans ((dk_bind (dk_u1 (h 1 _ rfl))).trans rfl))
theorem dk_22 {code : ByteArray} {pc : Nat} (a : UInt8) (h : DkAt code pc [22, a]) : decode code pc = .ok (.lload a.toNat, 2) := dk_of ((dk_bind (dk_u1 (h 0 _ rfl))).trans ((dk_bind (dk_u1 (h 1 _ rfl))).trans rfl))
theorem dk_25 {code : ByteArray} {pc : Nat} (a : UInt8) (h : DkAt code pc [25, a]) : decode code pc = .ok (.aload a.toNat, 2) := dk_of ((dk_bind (dk_u1 (h 0 _ rfl))).trans ((dk_bind (dk_u1 (h 1 _ rfl))).trans rfl))
theorem dk_26 {code : ByteArray} {pc : Nat} (h : DkAt code pc [26]) : decode code pc = .ok (.iload_n 0, 1) := dk_of ((dk_bind (dk_u1 (h 0 _ rfl))).trans rfl)
theorem dk_27 {code : ByteArray} {pc : Nat} (h : DkAt code pc [27]) : decode code pc = .ok (.iload_n 1, 1) := dk_of ((dk_bind (dk_u1 (h 0 _ rfl))).trans rfl)
theorem dk_28 {code : ByteArray} {pc : Nat} (h : DkAt code pc [28]) : decode code pc = .ok (.iload_n 2, 1) := dk_of ((dk_bind (dk_u1 (h 0 _ rfl))).trans rfl)
theorem dk_29 {code : ByteArray} {pc : Nat} (h : DkAt code pc [29]) : decode code pc = .ok (.iload_n 3, 1) := dk_of ((dk_bind (dk_u1 (h 0 _ rfl))).trans rfl)
theorem dk_30 {code : ByteArray} {pc : Nat} (h : DkAt code pc [30]) : decode code pc = .ok (.lload_n 0, 1) := dk_of ((dk_bind (dk_u1 (h 0 _ rfl))).trans rfl)
theorem dk_31 {code : ByteArray} {pc : Nat} (h : DkAt code pc [31]) : decode code pc = .ok (.lload_n 1, 1) := dk_of ((dk_bind (dk_u1 (h 0 _ rfl))).trans rfl)
theorem dk_32 {code : ByteArray} {pc : Nat} (h : DkAt code pc [32]) : decode code pc = .ok (.lload_n 2, 1) := dk_of ((dk_bind (dk_u1 (h 0 _ rfl))).trans rfl)
theorem dk_33 {code : ByteArray} {pc : Nat} (h : DkAt code pc [33]) : decode code pc = .ok (.lload_n 3, 1) := dk_of ((dk_bind (dk_u1 (h 0 _ rfl))).trans rfl)
theorem dk_42 {code : ByteArray} {pc : Nat} (h : DkAt code pc [42]) : decode code pc = .ok (.aload_n 0, 1) := dk_of ((dk_bind (dk_u1 (h 0 _ rfl))).trans rfl)
theorem dk_43 {code : ByteArray} {pc : Nat} (h : DkAt code pc [43]) : decode code pc = .ok (.aload_n 1, 1) := dk_of ((dk_bind (dk_u1 (h 0 _ rfl))).trans rfl)
theorem dk_44 {code : ByteArray} {pc : Nat} (h : DkAt code pc [44]) : decode code pc = .ok (.aload_n 2, 1) := dk_of ((dk_bind (dk_u1 (h 0 _ rfl))).trans rfl)
theorem dk_45 {code : ByteArray} {pc : Nat} (h : DkAt code pc [45]) : decode code pc = .ok (.aload_n 3, 1) := dk_of ((dk_bind (dk_u1 (h 0 _ rfl))).trans rfl)
theorem dk_46 {code : ByteArray} {pc : Nat} (h : DkAt code pc [46]) : decode code pc = .ok (.iaload, 1) := dk_of ((dk_bind (dk_u1 (h 0 _ rfl))).trans rfl)
theorem dk_47 {code : ByteArray} {pc : Nat} (h : DkAt code pc [47]) : decode code pc = .ok (.laload, 1) := dk_of ((dk_bind (dk_u1 (h 0 _ rfl))).trans rfl)
theorem dk_50 {code : ByteArray} {pc : Nat} (h : DkAt code pc [50]) : decode code pc = .ok (.aaload, 1) := dk_of ((dk_bind (dk_u1 (h 0 _ rfl))).trans rfl)
theorem dk_51 {code : ByteArray} {pc : Nat} (h : DkAt code pc [51]) : decode code pc = .ok (.baload, 1) := dk_of ((dk_bind (dk_u1 (h 0 _ rfl))).trans rfl)
theorem dk_52 {code : ByteArray} {pc : Nat} (h : DkAt code pc [52]) : decode code pc = .ok (.caload, 1) := dk_of ((dk_bind (dk_u1 (h 0 _ rfl))).trans rfl)
theorem dk_53 {code : ByteArray} {pc : Nat} (h : DkAt code pc [53]) : decode code pc = .ok (.saload, 1) := dk_of ((dk_bind (dk_u1 (h 0 _ rfl))).trans rfl)
theorem dk_54 {code : ByteArray} {pc : Nat} (a : UInt8) (h : DkAt code pc [54, a]) : decode code pc = .ok (.istore a.toNat, 2) := dk_of ((dk_bind (dk_u1 (h 0 _ rfl))).trans ((dk_bind (dk_u1 (h 1 _ rfl))).trans rfl))
theorem dk_55 {code : ByteArray} {pc : Nat} (a : UInt8) (h : DkAt code pc [55, a]) : decode code pc = .ok (.lstore a.toNat, 2) := dk_of ((dk_bind (dk_u1 (h 0 _ rfl))).trans ((dk_bind (dk_u1 (h 1 _ rfl))).trans rfl))
theorem dk_58 {code : ByteArray} {pc : Nat} (a : UInt8) (h : DkAt code pc [58, a]) : decode code pc = .ok (.astore a.toNat, 2) := dk_of ((dk_bind (dk_u1 (h 0 _ rfl))).trans ((dk_bind (dk_u1 (h 1 _ rfl))).trans rfl))
theorem dk_59 {code : ByteArray} {pc : Nat} (h : DkAt code pc [59]) : decode code pc = .ok (.istore_n 0, 1) := dk_of ((dk_bind (dk_u1 (h 0 _ rfl))).trans rfl)
theorem dk_60 {code : ByteArray} {pc : Nat} (h : DkAt code pc [60]) : decode code pc = .ok (.istore_n 1, 1) := dk_of ((dk_bind (dk_u1 (h 0 _ rfl))).trans rfl)
theorem dk_61 {code : ByteArray} {pc : Nat} (h : DkAt code pc [61]) : decode code pc = .ok (.istore_n 2, 1) := dk_of ((dk_bind (dk_u1 (h 0 _ rfl))).trans rfl)
theorem dk_62 {code : ByteArray} {pc : Nat} (h : DkAt code pc [62]) : decode code pc = .ok (.istore_n 3, 1) := dk_of ((dk_bind (dk_u1 (h 0 _ rfl))).trans rfl)
theorem dk_64 {code : ByteArray} {pc : Nat} (h : DkAt code pc [64]) : decode code pc = .ok (.lstore_n 1, 1) := dk_of ((dk_bind (dk_u1 (h 0 _ rfl))).trans rfl)
theorem dk_65 {code : ByteArray} {pc : Nat} (h : DkAt code pc [65]) : decode code pc = .ok (.lstore_n 2, 1) := dk_of ((dk_bind (dk_u1 (h 0 _ rfl))).trans rfl)
theorem dk_66 {code : ByteArray} {pc : Nat} (h : DkAt code pc [66]) : decode code pc = .ok (.lstore_n 3, 1) := dk_of ((dk_bind (dk_u1 (h 0 _ rfl))).trans rfl)
theorem dk_76 {code : ByteArray} {pc : Nat} (h : DkAt code pc [76]) : decode code pc = .ok (.astore_n 1, 1) := dk_of ((dk_bind (dk_u1 (h 0 _ rfl))).trans rfl)
theorem dk_77 {code : ByteArray} {pc : Nat} (h : DkAt code pc [77]) : decode code pc = .ok (.astore_n 2, 1) := dk_of ((dk_bind (dk_u1 (h 0 _ rfl))).trans rfl)
theorem dk_78 {code : ByteArray} {pc : Nat} (h : DkAt code pc [78]) : decode code pc = .ok (.astore_n 3, 1) := dk_of ((dk_bind (dk_u1 (h 0 _ rfl))).trans rfl)
theorem dk_79 {code : ByteArray} {pc : Nat} (h : DkAt code pc [79]) : decode code pc = .ok (.iastore, 1) := dk_of ((dk_bind (dk_u1 (h 0 _ rfl))).trans rfl)
theorem dk_80 {code : ByteArray} {pc : Nat} (h : DkAt code pc [80]) : decode code pc = .ok (.lastore, 1) := dk_of ((dk_bind (dk_u1 (h 0 _ rfl))).trans rfl)
theorem dk_83 {code : ByteArray} {pc : Nat} (h : DkAt code pc [83]) : decode code pc = .ok (.aastore, 1) := dk_of ((dk_bind (dk_u1 (h 0 _ rfl))).trans rfl)
theorem dk_84 {code : ByteArray} {pc : Nat} (h : DkAt code pc [84]) : decode code pc = .ok (.bastore, 1) := dk_of ((dk_bind (dk_u1 (h 0 _ rfl))).trans rfl)
theorem dk_85 {code : ByteArray} {pc : Nat} (h : DkAt code pc [85]) : decode code pc = .ok (.castore, 1) := dk_of ((dk_bind (dk_u1 (h 0 _ rfl))).trans rfl)
theorem dk_87 {code : ByteArray} {pc : Nat} (h : DkAt code pc [87]) : decode code pc = .ok (.pop, 1) := dk_of ((dk_bind (dk_u1 (h 0 _ rfl))).trans rfl)
theorem dk_89 {code : ByteArray} {pc : Nat} (h : DkAt code pc [89]) : decode code pc = .ok (.dup, 1) := dk_of ((dk_bind (dk_u1 (h 0 _ rfl))).trans rfl)
theorem dk_92 {code : ByteArray} {pc : Nat} (h : DkAt code pc [92]) : decode code pc = .ok (.dup2, 1) := dk_of ((dk_bind (dk_u1 (h 0 _ rfl))).trans rfl)
theorem dk_96 {code : ByteArray} {pc : Nat} (h : DkAt code pc [96]) : decode code pc = .ok (.iadd, 1) := dk_of ((dk_bind (dk_u1 (h 0 _ rfl))).trans rfl)
theorem dk_97 {code : ByteArray} {pc : Nat} (h : DkAt code pc [97]) : decode code pc = .ok (.ladd, 1) := dk_of ((dk_bind (dk_u1 (h 0 _ rfl))).trans rfl)
theorem dk_100 {code : ByteArray} {pc : Nat} (h : DkAt code pc [100]) : decode code pc = .ok (.isub, 1) := dk_of ((dk_bind (dk_u1 (h 0 _ rfl))).trans rfl)
theorem dk_101 {code : ByteArray} {pc : Nat} (h : DkAt code pc [101]) : decode code pc = .ok (.lsub, 1) := dk_of ((dk_bind (dk_u1 (h 0 _ rfl))).trans rfl)
theorem dk_104 {code : ByteArray} {pc : Nat} (h : DkAt code pc [104]) : decode code pc = .ok (.imul, 1) := dk_of ((dk_bind (dk_u1 (h 0 _ rfl))).trans rfl)
theorem dk_105 {code : ByteArray} {pc : Nat} (h : DkAt code pc [105]) : decode code pc = .ok (.lmul, 1) := dk_of ((dk_bind (dk_u1 (h 0 _ rfl))).trans rfl)
theorem dk_108 {code : ByteArray} {pc : Nat} (h : DkAt code pc [108]) : decode code pc = .ok (.idiv, 1) := dk_of ((dk_bind (dk_u1 (h 0 _ rfl))).trans rfl)
theorem dk_109 {code : ByteArray} {pc : Nat} (h : DkAt code pc [109]) : decode code pc = .ok (.ldiv, 1) := dk_of ((dk_bind (dk_u1 (h 0 _ rfl))).trans rfl)
theorem dk_112 {code : ByteArray} {pc : Nat} (h : DkAt code pc [112]) : decode code pc = .ok (.irem, 1) := dk_of ((dk_bind (dk_u1 (h 0 _ rfl))).trans rfl)
theorem dk_113 {code : ByteArray} {pc : Nat} (h : DkAt code pc [113]) : decode code pc = .ok (.lrem, 1) := dk_of ((dk_bind (dk_u1 (h 0 _ rfl))).trans rfl)
theorem dk_116 {code : ByteArray} {pc : Nat} (h : DkAt code pc [116]) : decode code pc = .ok (.ineg, 1) := dk_of ((dk_bind (dk_u1 (h 0 _ rfl))).trans rfl)
theorem dk_117 {code : ByteArray} {pc : Nat} (h : DkAt code pc [117]) : decode code pc = .ok (.lneg, 1) := dk_of ((dk_bind (dk_u1 (h 0 _ rfl))).trans rfl)
theorem dk_120 {code : ByteArray} {pc : Nat} (h : DkAt code pc [120]) : decode code pc = .ok (.ishl, 1) := dk_of ((dk_bind (dk_u1 (h 0 _ rfl))).trans rfl)
theorem dk_122 {code : ByteArray} {pc : Nat} (h : DkAt code pc [122]) : decode code pc = .ok (.ishr, 1) := dk_of ((dk_bind (dk_u1 (h 0 _ rfl))).trans rfl)
theorem dk_124 {code : ByteArray} {pc : Nat} (h : DkAt code pc [124]) : decode code pc = .ok (.iushr, 1) := dk_of ((dk_bind (dk_u1 (h 0 _ rfl))).trans rfl)
theorem dk_126 {code : ByteArray} {pc : Nat} (h : DkAt code pc [126]) : decode code pc = .ok (.iand, 1) := dk_of ((dk_bind (dk_u1 (h 0 _ rfl))).trans rfl)
theorem dk_128 {code : ByteArray} {pc : Nat} (h : DkAt code pc [128]) : decode code pc = .ok (.ior, 1) := dk_of ((dk_bind (dk_u1 (h 0 _ rfl))).trans rfl)
theorem dk_130 {code : ByteArray} {pc : Nat} (h : DkAt code pc [130]) : decode code pc = .ok (.ixor, 1) := dk_of ((dk_bind (dk_u1 (h 0 _ rfl))).trans rfl)
theorem dk_132 {code : ByteArray} {pc : Nat} (a b : UInt8) (h : DkAt code pc [132, a, b]) : decode code pc = .ok (.iinc a.toNat (Reader.signed 8 b.toNat), 3) := dk_of ((dk_bind (dk_u1 (h 0 _ rfl))).trans ((dk_bind (dk_u1 (h 1 _ rfl))).trans ((dk_bind (dk_map (dk_u1 (h 2 _ rfl)))).trans rfl)))
theorem dk_133 {code : ByteArray} {pc : Nat} (h : DkAt code pc [133]) : decode code pc = .ok (.i2l, 1) := dk_of ((dk_bind (dk_u1 (h 0 _ rfl))).trans rfl)
theorem dk_136 {code : ByteArray} {pc : Nat} (h : DkAt code pc [136]) : decode code pc = .ok (.l2i, 1) := dk_of ((dk_bind (dk_u1 (h 0 _ rfl))).trans rfl)
theorem dk_145 {code : ByteArray} {pc : Nat} (h : DkAt code pc [145]) : decode code pc = .ok (.i2b, 1) := dk_of ((dk_bind (dk_u1 (h 0 _ rfl))).trans rfl)
theorem dk_146 {code : ByteArray} {pc : Nat} (h : DkAt code pc [146]) : decode code pc = .ok (.i2c, 1) := dk_of ((dk_bind (dk_u1 (h 0 _ rfl))).trans rfl)
theorem dk_148 {code : ByteArray} {pc : Nat} (h : DkAt code pc [148]) : decode code pc = .ok (.lcmp, 1) := dk_of ((dk_bind (dk_u1 (h 0 _ rfl))).trans rfl)
theorem dk_153 {code : ByteArray} {pc : Nat} (a b : UInt8) (h : DkAt code pc [153, a, b]) : decode code pc = .ok (.ifCond .eq (Reader.signed 16 (a.toNat * 256 + b.toNat)), 3) := dk_of ((dk_bind (dk_u1 (h 0 _ rfl))).trans ((dk_bind (dk_map (dk_u2 (h 1 _ rfl) (h 2 _ rfl)))).trans rfl))
theorem dk_154 {code : ByteArray} {pc : Nat} (a b : UInt8) (h : DkAt code pc [154, a, b]) : decode code pc = .ok (.ifCond .ne (Reader.signed 16 (a.toNat * 256 + b.toNat)), 3) := dk_of ((dk_bind (dk_u1 (h 0 _ rfl))).trans ((dk_bind (dk_map (dk_u2 (h 1 _ rfl) (h 2 _ rfl)))).trans rfl))
theorem dk_155 {code : ByteArray} {pc : Nat} (a b : UInt8) (h : DkAt code pc [155, a, b]) : decode code pc = .ok (.ifCond .lt (Reader.signed 16 (a.toNat * 256 + b.toNat)), 3) := dk_of ((dk_bind (dk_u1 (h 0 _ rfl))).trans ((dk_bind (dk_map (dk_u2 (h 1 _ rfl) (h 2 _ rfl)))).trans rfl))
theorem dk_156 {code : ByteArray} {pc : Nat} (a b : UInt8) (h : DkAt code pc [156, a, b]) : decode code pc = .ok (.ifCond .ge (Reader.signed 16 (a.toNat * 256 + b.toNat)), 3) := dk_of ((dk_bind (dk_u1 (h 0 _ rfl))).trans ((dk_bind (dk_map (dk_u2 (h 1 _ rfl) (h 2 _ rfl)))).trans rfl))
theorem dk_158 {code : ByteArray} {pc : Nat} (a b : UInt8) (h : DkAt code pc [158, a, b]) : decode code pc = .ok (.ifCond .le (Reader.signed 16 (a.toNat * 256 + b.toNat)), 3) := dk_of ((dk_bind (dk_u1 (h 0 _ rfl))).trans ((dk_bind (dk_map (dk_u2 (h 1 _ rfl) (h 2 _ rfl)))).trans rfl))
theorem dk_159 {code : ByteArray} {pc : Nat} (a b : UInt8) (h : DkAt code pc [159, a, b]) : decode code pc = .ok (.if_icmp .eq (Reader.signed 16 (a.toNat * 256 + b.toNat)), 3) := dk_of ((dk_bind (dk_u1 (h 0 _ rfl))).trans ((dk_bind (dk_map (dk_u2 (h 1 _ rfl) (h 2 _ rfl)))).trans rfl))
theorem dk_160 {code : ByteArray} {pc : Nat} (a b : UInt8) (h : DkAt code pc [160, a, b]) : decode code pc = .ok (.if_icmp .ne (Reader.signed 16 (a.toNat * 256 + b.toNat)), 3) := dk_of ((dk_bind (dk_u1 (h 0 _ rfl))).trans ((dk_bind (dk_map (dk_u2 (h 1 _ rfl) (h 2 _ rfl)))).trans rfl))
theorem dk_161 {code : ByteArray} {pc : Nat} (a b : UInt8) (h : DkAt code pc [161, a, b]) : decode code pc = .ok (.if_icmp .lt (Reader.signed 16 (a.toNat * 256 + b.toNat)), 3) := dk_of ((dk_bind (dk_u1 (h 0 _ rfl))).trans ((dk_bind (dk_map (dk_u2 (h 1 _ rfl) (h 2 _ rfl)))).trans rfl))
theorem dk_162 {code : ByteArray} {pc : Nat} (a b : UInt8) (h : DkAt code pc [162, a, b]) : decode code pc = .ok (.if_icmp .ge (Reader.signed 16 (a.toNat * 256 + b.toNat)), 3) := dk_of ((dk_bind (dk_u1 (h 0 _ rfl))).trans ((dk_bind (dk_map (dk_u2 (h 1 _ rfl) (h 2 _ rfl)))).trans rfl))
theorem dk_163 {code : ByteArray} {pc : Nat} (a b : UInt8) (h : DkAt code pc [163, a, b]) : decode code pc = .ok (.if_icmp .gt (Reader.signed 16 (a.toNat * 256 + b.toNat)), 3) := dk_of ((dk_bind (dk_u1 (h 0 _ rfl))).trans ((dk_bind (dk_map (dk_u2 (h 1 _ rfl) (h 2 _ rfl)))).trans rfl))
theorem dk_164 {code : ByteArray} {pc : Nat} (a b : UInt8) (h : DkAt code pc [164, a, b]) : decode code pc = .ok (.if_icmp .le (Reader.signed 16 (a.toNat * 256 + b.toNat)), 3) := dk_of ((dk_bind (dk_u1 (h 0 _ rfl))).trans ((dk_bind (dk_map (dk_u2 (h 1 _ rfl) (h 2 _ rfl)))).trans rfl))
theorem dk_165 {code : ByteArray} {pc : Nat} (a b : UInt8) (h : DkAt code pc [165, a, b]) : decode code pc = .ok (.if_acmp .eq (Reader.signed 16 (a.toNat * 256 + b.toNat)), 3) := dk_of ((dk_bind (dk_u1 (h 0 _ rfl))).trans ((dk_bind (dk_map (dk_u2 (h 1 _ rfl) (h 2 _ rfl)))).trans rfl))
theorem dk_166 {code : ByteArray} {pc : Nat} (a b : UInt8) (h : DkAt code pc [166, a, b]) : decode code pc = .ok (.if_acmp .ne (Reader.signed 16 (a.toNat * 256 + b.toNat)), 3) := dk_of ((dk_bind (dk_u1 (h 0 _ rfl))).trans ((dk_bind (dk_map (dk_u2 (h 1 _ rfl) (h 2 _ rfl)))).trans rfl))
theorem dk_167 {code : ByteArray} {pc : Nat} (a b : UInt8) (h : DkAt code pc [167, a, b]) : decode code pc = .ok (.goto (Reader.signed 16 (a.toNat * 256 + b.toNat)), 3) := dk_of ((dk_bind (dk_u1 (h 0 _ rfl))).trans ((dk_bind (dk_map (dk_u2 (h 1 _ rfl) (h 2 _ rfl)))).trans rfl))
theorem dk_172 {code : ByteArray} {pc : Nat} (h : DkAt code pc [172]) : decode code pc = .ok (.ireturn, 1) := dk_of ((dk_bind (dk_u1 (h 0 _ rfl))).trans rfl)
theorem dk_173 {code : ByteArray} {pc : Nat} (h : DkAt code pc [173]) : decode code pc = .ok (.lreturn, 1) := dk_of ((dk_bind (dk_u1 (h 0 _ rfl))).trans rfl)
theorem dk_176 {code : ByteArray} {pc : Nat} (h : DkAt code pc [176]) : decode code pc = .ok (.areturn, 1) := dk_of ((dk_bind (dk_u1 (h 0 _ rfl))).trans rfl)
theorem dk_177 {code : ByteArray} {pc : Nat} (h : DkAt code pc [177]) : decode code pc = .ok (.return_, 1) := dk_of ((dk_bind (dk_u1 (h 0 _ rfl))).trans rfl)
theorem dk_178 {code : ByteArray} {pc : Nat} (a b : UInt8) (h : DkAt code pc [178, a, b]) : decode code pc = .ok (.getstatic (a.toNat * 256 + b.toNat), 3) := dk_of ((dk_bind (dk_u1 (h 0 _ rfl))).trans ((dk_bind (dk_u2 (h 1 _ rfl) (h 2 _ rfl))).trans rfl))
theorem dk_180 {code : ByteArray} {pc : Nat} (a b : UInt8) (h : DkAt code pc [180, a, b]) : decode code pc = .ok (.getfield (a.toNat * 256 + b.toNat), 3) := dk_of ((dk_bind (dk_u1 (h 0 _ rfl))).trans ((dk_bind (dk_u2 (h 1 _ rfl) (h 2 _ rfl))).trans rfl))
theorem dk_181 {code : ByteArray} {pc : Nat} (a b : UInt8) (h : DkAt code pc [181, a, b]) : decode code pc = .ok (.putfield (a.toNat * 256 + b.toNat), 3) := dk_of ((dk_bind (dk_u1 (h 0 _ rfl))).trans ((dk_bind (dk_u2 (h 1 _ rfl) (h 2 _ rfl))).trans rfl))
theorem dk_182 {code : ByteArray} {pc : Nat} (a b : UInt8) (h : DkAt code pc [182, a, b]) : decode code pc = .ok (.invokevirtual (a.toNat * 256 + b.toNat), 3) := dk_of ((dk_bind (dk_u1 (h 0 _ rfl))).trans ((dk_bind (dk_u2 (h 1 _ rfl) (h 2 _ rfl))).trans rfl))
theorem dk_183 {code : ByteArray} {pc : Nat} (a b : UInt8) (h : DkAt code pc [183, a, b]) : decode code pc = .ok (.invokespecial (a.toNat * 256 + b.toNat), 3) := dk_of ((dk_bind (dk_u1 (h 0 _ rfl))).trans ((dk_bind (dk_u2 (h 1 _ rfl) (h 2 _ rfl))).trans rfl))
theorem dk_184 {code : ByteArray} {pc : Nat} (a b : UInt8) (h : DkAt code pc [184, a, b]) : decode code pc = .ok (.invokestatic (a.toNat * 256 + b.toNat), 3) := dk_of ((dk_bind (dk_u1 (h 0 _ rfl))).trans ((dk_bind (dk_u2 (h 1 _ rfl) (h 2 _ rfl))).trans rfl))
theorem dk_187 {code : ByteArray} {pc : Nat} (a b : UInt8) (h : DkAt code pc [187, a, b]) : decode code pc = .ok (.new (a.toNat * 256 + b.toNat), 3) := dk_of ((dk_bind (dk_u1 (h 0 _ rfl))).trans ((dk_bind (dk_u2 (h 1 _ rfl) (h 2 _ rfl))).trans rfl))
theorem dk_188_5 {code : ByteArray} {pc : Nat} (h : DkAt code pc [188, 5]) : decode code pc = .ok (.newarray .char, 2) := dk_of ((dk_bind (dk_u1 (h 0 _ rfl))).trans ((dk_bind (dk_u1 (h 1 _ rfl))).trans rfl))
theorem dk_188_8 {code : ByteArray} {pc : Nat} (h : DkAt code pc [188, 8]) : decode code pc = .ok (.newarray .byte, 2) := dk_of ((dk_bind (dk_u1 (h 0 _ rfl))).trans ((dk_bind (dk_u1 (h 1 _ rfl))).trans rfl))
theorem dk_188_10 {code : ByteArray} {pc : Nat} (h : DkAt code pc [188, 10]) : decode code pc = .ok (.newarray .int, 2) := dk_of ((dk_bind (dk_u1 (h 0 _ rfl))).trans ((dk_bind (dk_u1 (h 1 _ rfl))).trans rfl))
theorem dk_188_11 {code : ByteArray} {pc : Nat} (h : DkAt code pc [188, 11]) : decode code pc = .ok (.newarray .long, 2) := dk_of ((dk_bind (dk_u1 (h 0 _ rfl))).trans ((dk_bind (dk_u1 (h 1 _ rfl))).trans rfl))
theorem dk_189 {code : ByteArray} {pc : Nat} (a b : UInt8) (h : DkAt code pc [189, a, b]) : decode code pc = .ok (.anewarray (a.toNat * 256 + b.toNat), 3) := dk_of ((dk_bind (dk_u1 (h 0 _ rfl))).trans ((dk_bind (dk_u2 (h 1 _ rfl) (h 2 _ rfl))).trans rfl))
theorem dk_190 {code : ByteArray} {pc : Nat} (h : DkAt code pc [190]) : decode code pc = .ok (.arraylength, 1) := dk_of ((dk_bind (dk_u1 (h 0 _ rfl))).trans rfl)
theorem dk_191 {code : ByteArray} {pc : Nat} (h : DkAt code pc [191]) : decode code pc = .ok (.athrow, 1) := dk_of ((dk_bind (dk_u1 (h 0 _ rfl))).trans rfl)
theorem dk_192 {code : ByteArray} {pc : Nat} (a b : UInt8) (h : DkAt code pc [192, a, b]) : decode code pc = .ok (.checkcast (a.toNat * 256 + b.toNat), 3) := dk_of ((dk_bind (dk_u1 (h 0 _ rfl))).trans ((dk_bind (dk_u2 (h 1 _ rfl) (h 2 _ rfl))).trans rfl))
theorem dk_193 {code : ByteArray} {pc : Nat} (a b : UInt8) (h : DkAt code pc [193, a, b]) : decode code pc = .ok (.instanceof (a.toNat * 256 + b.toNat), 3) := dk_of ((dk_bind (dk_u1 (h 0 _ rfl))).trans ((dk_bind (dk_u2 (h 1 _ rfl) (h 2 _ rfl))).trans rfl))
theorem dk_198 {code : ByteArray} {pc : Nat} (a b : UInt8) (h : DkAt code pc [198, a, b]) : decode code pc = .ok (.ifnull (Reader.signed 16 (a.toNat * 256 + b.toNat)), 3) := dk_of ((dk_bind (dk_u1 (h 0 _ rfl))).trans ((dk_bind (dk_map (dk_u2 (h 1 _ rfl) (h 2 _ rfl)))).trans rfl))
theorem dk_199 {code : ByteArray} {pc : Nat} (a b : UInt8) (h : DkAt code pc [199, a, b]) : decode code pc = .ok (.ifnonnull (Reader.signed 16 (a.toNat * 256 + b.toNat)), 3) := dk_of ((dk_bind (dk_u1 (h 0 _ rfl))).trans ((dk_bind (dk_map (dk_u2 (h 1 _ rfl) (h 2 _ rfl)))).trans rfl))
-- ===== PART A: goes FIRST, ahead of the names: the tables' words, and 'selects' of the private methods out of them =====
/-- a private method of a class that the tables say can be made, by its rows of tables_1 -/
def lw_okq (q : MethodName × Nat) : Prop := (q.1.cls ≠ "java/lang/invoke/MethodHandle" ∧ q.1.cls ≠ "java/lang/invoke/VarHandle") ∧ Cond.instantiable q.1.cls q.2 ∈ tables_1 ∧ Cond.privateMethod q.1 ∈ tables_1 ∧ Cond.instanceMethod q.1 ∈ tables_1
set_option maxRecDepth 100000
theorem lw_t1 {w : Cond} (h : w ∈ tables_1_1) : w ∈ tables_1 := List.mem_append_left _ h
theorem lw_t2 {w : Cond} (h : w ∈ tables_1_2) : w ∈ tables_1 := List.mem_append_right _ (List.mem_append_left _ h)
theorem lw_t3 {w : Cond} (h : w ∈ tables_1_3) : w ∈ tables_1 := List.mem_append_right _ (List.mem_append_right _ (List.mem_append_left _ h))
theorem lw_t4 {w : Cond} (h : w ∈ tables_1_4) : w ∈ tables_1 := List.mem_append_right _ (List.mem_append_right _ (List.mem_append_right _ (List.mem_append_left _ h)))
theorem lw_t5 {w : Cond} (h : w ∈ tables_1_5) : w ∈ tables_1 := List.mem_append_right _ (List.mem_append_right _ (List.mem_append_right _ (List.mem_append_right _ (List.mem_append_left _ h))))
theorem lw_t6 {w : Cond} (h : w ∈ tables_1_6) : w ∈ tables_1 := List.mem_append_right _ (List.mem_append_right _ (List.mem_append_right _ (List.mem_append_right _ (List.mem_append_right _ (List.mem_append_left _ h)))))
theorem lw_t7 {w : Cond} (h : w ∈ tables_1_7) : w ∈ tables_1 := List.mem_append_right _ (List.mem_append_right _ (List.mem_append_right _ (List.mem_append_right _ (List.mem_append_right _ (List.mem_append_right _ (List.mem_append_left _ h))))))
theorem lw_t8 {w : Cond} (h : w ∈ tables_1_8) : w ∈ tables_1 := List.mem_append_right _ (List.mem_append_right _ (List.mem_append_right _ (List.mem_append_right _ (List.mem_append_right _ (List.mem_append_right _ (List.mem_append_right _ (List.mem_append_left _ h)))))))
theorem lw_t9 {w : Cond} (h : w ∈ tables_1_9) : w ∈ tables_1 := List.mem_append_right _ (List.mem_append_right _ (List.mem_append_right _ (List.mem_append_right _ (List.mem_append_right _ (List.mem_append_right _ (List.mem_append_right _ (List.mem_append_right _ h)))))))
theorem lw_p0 : lw_okq (⟨"java/lang/Throwable", "fillInStackTrace", "(I)Ljava/lang/Throwable;"⟩, 6) := ⟨⟨by decide +kernel, by decide +kernel⟩, lw_t1 (List.mem_of_getElem? (i := 83) rfl), lw_t1 (List.mem_of_getElem? (i := 81) rfl), lw_t1 (List.mem_of_getElem? (i := 82) rfl)⟩
theorem lw_p1 : lw_okq (⟨"WrongRoom", "bytes", "(I)V"⟩, 21) := ⟨⟨by decide +kernel, by decide +kernel⟩, lw_t1 (List.mem_of_getElem? (i := 32) rfl), lw_t2 (List.mem_of_getElem? (i := 119) rfl), lw_t2 (List.mem_of_getElem? (i := 120) rfl)⟩
theorem lw_p2 : lw_okq (⟨"WrongRoom", "anew", "()V"⟩, 21) := ⟨⟨by decide +kernel, by decide +kernel⟩, lw_t1 (List.mem_of_getElem? (i := 32) rfl), lw_t2 (List.mem_of_getElem? (i := 128) rfl), lw_t2 (List.mem_of_getElem? (i := 129) rfl)⟩
theorem lw_p3 : lw_okq (⟨"WrongRoom", "no", "(I)I"⟩, 21) := ⟨⟨by decide +kernel, by decide +kernel⟩, lw_t1 (List.mem_of_getElem? (i := 32) rfl), lw_t2 (List.mem_of_getElem? (i := 135) rfl), lw_t2 (List.mem_of_getElem? (i := 136) rfl)⟩
theorem lw_p4 : lw_okq (⟨"WrongRoom$Reader", "next", "()V"⟩, 11) := ⟨⟨by decide +kernel, by decide +kernel⟩, lw_t1 (List.mem_of_getElem? (i := 40) rfl), lw_t2 (List.mem_of_getElem? (i := 220) rfl), lw_t2 (List.mem_of_getElem? (i := 221) rfl)⟩
theorem lw_p5 : lw_okq (⟨"WrongRoom$Reader", "see", "(I)I"⟩, 11) := ⟨⟨by decide +kernel, by decide +kernel⟩, lw_t1 (List.mem_of_getElem? (i := 40) rfl), lw_t2 (List.mem_of_getElem? (i := 224) rfl), lw_t2 (List.mem_of_getElem? (i := 225) rfl)⟩
theorem lw_p6 : lw_okq (⟨"WrongRoom$Reader", "line", "()V"⟩, 11) := ⟨⟨by decide +kernel, by decide +kernel⟩, lw_t1 (List.mem_of_getElem? (i := 40) rfl), lw_t3 (List.mem_of_getElem? (i := 74) rfl), lw_t3 (List.mem_of_getElem? (i := 75) rfl)⟩
theorem lw_p7 : lw_okq (⟨"WrongRoom$Reader", "fail", "(I)LWrongRoom$Refused;"⟩, 11) := ⟨⟨by decide +kernel, by decide +kernel⟩, lw_t1 (List.mem_of_getElem? (i := 40) rfl), lw_t3 (List.mem_of_getElem? (i := 78) rfl), lw_t3 (List.mem_of_getElem? (i := 79) rfl)⟩
theorem lw_p8 : lw_okq (⟨"WrongRoom$Reader", "townLine", "()V"⟩, 11) := ⟨⟨by decide +kernel, by decide +kernel⟩, lw_t1 (List.mem_of_getElem? (i := 40) rfl), lw_t3 (List.mem_of_getElem? (i := 155) rfl), lw_t3 (List.mem_of_getElem? (i := 156) rfl)⟩
theorem lw_p9 : lw_okq (⟨"WrongRoom$Reader", "after", "(Ljava/lang/String;II)I"⟩, 11) := ⟨⟨by decide +kernel, by decide +kernel⟩, lw_t1 (List.mem_of_getElem? (i := 40) rfl), lw_t3 (List.mem_of_getElem? (i := 160) rfl), lw_t3 (List.mem_of_getElem? (i := 161) rfl)⟩
theorem lw_p10 : lw_okq (⟨"WrongRoom$Reader", "must", "(Ljava/lang/String;)V"⟩, 11) := ⟨⟨by decide +kernel, by decide +kernel⟩, lw_t1 (List.mem_of_getElem? (i := 40) rfl), lw_t3 (List.mem_of_getElem? (i := 164) rfl), lw_t3 (List.mem_of_getElem? (i := 165) rfl)⟩
theorem lw_p11 : lw_okq (⟨"WrongRoom$Reader", "takes", "(Ljava/lang/String;)Z"⟩, 11) := ⟨⟨by decide +kernel, by decide +kernel⟩, lw_t1 (List.mem_of_getElem? (i := 40) rfl), lw_t3 (List.mem_of_getElem? (i := 168) rfl), lw_t3 (List.mem_of_getElem? (i := 169) rfl)⟩
theorem lw_p12 : lw_okq (⟨"WrongRoom$Reader", "number", "(II)I"⟩, 11) := ⟨⟨by decide +kernel, by decide +kernel⟩, lw_t1 (List.mem_of_getElem? (i := 40) rfl), lw_t3 (List.mem_of_getElem? (i := 172) rfl), lw_t3 (List.mem_of_getElem? (i := 173) rfl)⟩
theorem lw_p13 : lw_okq (⟨"WrongRoom$Reader", "houseLine", "()V"⟩, 11) := ⟨⟨by decide +kernel, by decide +kernel⟩, lw_t1 (List.mem_of_getElem? (i := 40) rfl), lw_t3 (List.mem_of_getElem? (i := 177) rfl), lw_t3 (List.mem_of_getElem? (i := 178) rfl)⟩
theorem lw_p14 : lw_okq (⟨"WrongRoom$Reader", "begins", "(Z)V"⟩, 11) := ⟨⟨by decide +kernel, by decide +kernel⟩, lw_t1 (List.mem_of_getElem? (i := 40) rfl), lw_t3 (List.mem_of_getElem? (i := 181) rfl), lw_t3 (List.mem_of_getElem? (i := 182) rfl)⟩
theorem lw_p15 : lw_okq (⟨"WrongRoom$Reader", "newName", "()Ljava/lang/String;"⟩, 11) := ⟨⟨by decide +kernel, by decide +kernel⟩, lw_t1 (List.mem_of_getElem? (i := 40) rfl), lw_t3 (List.mem_of_getElem? (i := 187) rfl), lw_t3 (List.mem_of_getElem? (i := 188) rfl)⟩
def lw_privs_1 : List (MethodName × Nat) := [(⟨"java/lang/Throwable", "fillInStackTrace", "(I)Ljava/lang/Throwable;"⟩, 6), (⟨"WrongRoom", "bytes", "(I)V"⟩, 21), (⟨"WrongRoom", "anew", "()V"⟩, 21), (⟨"WrongRoom", "no", "(I)I"⟩, 21), (⟨"WrongRoom$Reader", "next", "()V"⟩, 11), (⟨"WrongRoom$Reader", "see", "(I)I"⟩, 11), (⟨"WrongRoom$Reader", "line", "()V"⟩, 11), (⟨"WrongRoom$Reader", "fail", "(I)LWrongRoom$Refused;"⟩, 11), (⟨"WrongRoom$Reader", "townLine", "()V"⟩, 11), (⟨"WrongRoom$Reader", "after", "(Ljava/lang/String;II)I"⟩, 11), (⟨"WrongRoom$Reader", "must", "(Ljava/lang/String;)V"⟩, 11), (⟨"WrongRoom$Reader", "takes", "(Ljava/lang/String;)Z"⟩, 11), (⟨"WrongRoom$Reader", "number", "(II)I"⟩, 11), (⟨"WrongRoom$Reader", "houseLine", "()V"⟩, 11), (⟨"WrongRoom$Reader", "begins", "(Z)V"⟩, 11), (⟨"WrongRoom$Reader", "newName", "()Ljava/lang/String;"⟩, 11)]
theorem lw_r1 : ∀ q ∈ lw_privs_1, lw_okq q := List.forall_mem_cons.mpr ⟨lw_p0, List.forall_mem_cons.mpr ⟨lw_p1, List.forall_mem_cons.mpr ⟨lw_p2, List.forall_mem_cons.mpr ⟨lw_p3, List.forall_mem_cons.mpr ⟨lw_p4, List.forall_mem_cons.mpr ⟨lw_p5, List.forall_mem_cons.mpr ⟨lw_p6, List.forall_mem_cons.mpr ⟨lw_p7, List.forall_mem_cons.mpr ⟨lw_p8, List.forall_mem_cons.mpr ⟨lw_p9, List.forall_mem_cons.mpr ⟨lw_p10, List.forall_mem_cons.mpr ⟨lw_p11, List.forall_mem_cons.mpr ⟨lw_p12, List.forall_mem_cons.mpr ⟨lw_p13, List.forall_mem_cons.mpr ⟨lw_p14, List.forall_mem_cons.mpr ⟨lw_p15, fun _ h => absurd h List.not_mem_nil⟩⟩⟩⟩⟩⟩⟩⟩⟩⟩⟩⟩⟩⟩⟩⟩
theorem lw_p16 : lw_okq (⟨"WrongRoom$Reader", "mustName", "()V"⟩, 11) := ⟨⟨by decide +kernel, by decide +kernel⟩, lw_t1 (List.mem_of_getElem? (i := 40) rfl), lw_t3 (List.mem_of_getElem? (i := 191) rfl), lw_t3 (List.mem_of_getElem? (i := 192) rfl)⟩
theorem lw_p17 : lw_okq (⟨"WrongRoom$Reader", "anyWord", "()Ljava/lang/String;"⟩, 11) := ⟨⟨by decide +kernel, by decide +kernel⟩, lw_t1 (List.mem_of_getElem? (i := 40) rfl), lw_t4 (List.mem_of_getElem? (i := 20) rfl), lw_t4 (List.mem_of_getElem? (i := 21) rfl)⟩
theorem lw_p18 : lw_okq (⟨"WrongRoom$Reader", "wrongLine", "()V"⟩, 11) := ⟨⟨by decide +kernel, by decide +kernel⟩, lw_t1 (List.mem_of_getElem? (i := 40) rfl), lw_t4 (List.mem_of_getElem? (i := 24) rfl), lw_t4 (List.mem_of_getElem? (i := 25) rfl)⟩
theorem lw_p19 : lw_okq (⟨"WrongRoom$Reader", "houseHere", "()LWrongRoom$House;"⟩, 11) := ⟨⟨by decide +kernel, by decide +kernel⟩, lw_t1 (List.mem_of_getElem? (i := 40) rfl), lw_t4 (List.mem_of_getElem? (i := 28) rfl), lw_t4 (List.mem_of_getElem? (i := 29) rfl)⟩
theorem lw_p20 : lw_okq (⟨"WrongRoom$Reader", "openLine", "()V"⟩, 11) := ⟨⟨by decide +kernel, by decide +kernel⟩, lw_t1 (List.mem_of_getElem? (i := 40) rfl), lw_t4 (List.mem_of_getElem? (i := 33) rfl), lw_t4 (List.mem_of_getElem? (i := 34) rfl)⟩
theorem lw_p21 : lw_okq (⟨"WrongRoom$Reader", "streetLine", "()V"⟩, 11) := ⟨⟨by decide +kernel, by decide +kernel⟩, lw_t1 (List.mem_of_getElem? (i := 40) rfl), lw_t4 (List.mem_of_getElem? (i := 39) rfl), lw_t4 (List.mem_of_getElem? (i := 40) rfl)⟩
theorem lw_p22 : lw_okq (⟨"WrongRoom$Reader", "house", "()LWrongRoom$House;"⟩, 11) := ⟨⟨by decide +kernel, by decide +kernel⟩, lw_t1 (List.mem_of_getElem? (i := 40) rfl), lw_t4 (List.mem_of_getElem? (i := 43) rfl), lw_t4 (List.mem_of_getElem? (i := 44) rfl)⟩
theorem lw_p23 : lw_okq (⟨"WrongRoom$Reader", "personLine", "()V"⟩, 11) := ⟨⟨by decide +kernel, by decide +kernel⟩, lw_t1 (List.mem_of_getElem? (i := 40) rfl), lw_t4 (List.mem_of_getElem? (i := 52) rfl), lw_t4 (List.mem_of_getElem? (i := 53) rfl)⟩
theorem lw_p24 : lw_okq (⟨"WrongRoom$Reader", "signLine", "()V"⟩, 11) := ⟨⟨by decide +kernel, by decide +kernel⟩, lw_t1 (List.mem_of_getElem? (i := 40) rfl), lw_t4 (List.mem_of_getElem? (i := 75) rfl), lw_t4 (List.mem_of_getElem? (i := 76) rfl)⟩
theorem lw_p25 : lw_okq (⟨"WrongRoom$Reader", "note", "(LWrongRoom$Notice;)V"⟩, 11) := ⟨⟨by decide +kernel, by decide +kernel⟩, lw_t1 (List.mem_of_getElem? (i := 40) rfl), lw_t4 (List.mem_of_getElem? (i := 97) rfl), lw_t4 (List.mem_of_getElem? (i := 98) rfl)⟩
theorem lw_p26 : lw_okq (⟨"WrongRoom$Reader", "noiseLine", "()V"⟩, 11) := ⟨⟨by decide +kernel, by decide +kernel⟩, lw_t1 (List.mem_of_getElem? (i := 40) rfl), lw_t4 (List.mem_of_getElem? (i := 105) rfl), lw_t4 (List.mem_of_getElem? (i := 106) rfl)⟩
theorem lw_p27 : lw_okq (⟨"WrongRoom", "isHouse", "(I)Z"⟩, 21) := ⟨⟨by decide +kernel, by decide +kernel⟩, lw_t1 (List.mem_of_getElem? (i := 32) rfl), lw_t4 (List.mem_of_getElem? (i := 136) rfl), lw_t4 (List.mem_of_getElem? (i := 137) rfl)⟩
theorem lw_p28 : lw_okq (⟨"WrongRoom", "minuteWhy", "(ZI)I"⟩, 21) := ⟨⟨by decide +kernel, by decide +kernel⟩, lw_t1 (List.mem_of_getElem? (i := 32) rfl), lw_t4 (List.mem_of_getElem? (i := 151) rfl), lw_t4 (List.mem_of_getElem? (i := 152) rfl)⟩
theorem lw_p29 : lw_okq (⟨"WrongRoom", "isPerson", "(I)Z"⟩, 21) := ⟨⟨by decide +kernel, by decide +kernel⟩, lw_t1 (List.mem_of_getElem? (i := 32) rfl), lw_t4 (List.mem_of_getElem? (i := 174) rfl), lw_t4 (List.mem_of_getElem? (i := 175) rfl)⟩
theorem lw_p30 : lw_okq (⟨"WrongRoom", "behind", "(II)I"⟩, 21) := ⟨⟨by decide +kernel, by decide +kernel⟩, lw_t1 (List.mem_of_getElem? (i := 32) rfl), lw_t4 (List.mem_of_getElem? (i := 182) rfl), lw_t4 (List.mem_of_getElem? (i := 183) rfl)⟩
theorem lw_p31 : lw_okq (⟨"WrongRoom", "wayWhy", "(III)I"⟩, 21) := ⟨⟨by decide +kernel, by decide +kernel⟩, lw_t1 (List.mem_of_getElem? (i := 32) rfl), lw_t4 (List.mem_of_getElem? (i := 222) rfl), lw_t4 (List.mem_of_getElem? (i := 223) rfl)⟩
def lw_privs_2 : List (MethodName × Nat) := [(⟨"WrongRoom$Reader", "mustName", "()V"⟩, 11), (⟨"WrongRoom$Reader", "anyWord", "()Ljava/lang/String;"⟩, 11), (⟨"WrongRoom$Reader", "wrongLine", "()V"⟩, 11), (⟨"WrongRoom$Reader", "houseHere", "()LWrongRoom$House;"⟩, 11), (⟨"WrongRoom$Reader", "openLine", "()V"⟩, 11), (⟨"WrongRoom$Reader", "streetLine", "()V"⟩, 11), (⟨"WrongRoom$Reader", "house", "()LWrongRoom$House;"⟩, 11), (⟨"WrongRoom$Reader", "personLine", "()V"⟩, 11), (⟨"WrongRoom$Reader", "signLine", "()V"⟩, 11), (⟨"WrongRoom$Reader", "note", "(LWrongRoom$Notice;)V"⟩, 11), (⟨"WrongRoom$Reader", "noiseLine", "()V"⟩, 11), (⟨"WrongRoom", "isHouse", "(I)Z"⟩, 21), (⟨"WrongRoom", "minuteWhy", "(ZI)I"⟩, 21), (⟨"WrongRoom", "isPerson", "(I)Z"⟩, 21), (⟨"WrongRoom", "behind", "(II)I"⟩, 21), (⟨"WrongRoom", "wayWhy", "(III)I"⟩, 21)]
theorem lw_r2 : ∀ q ∈ lw_privs_2, lw_okq q := List.forall_mem_cons.mpr ⟨lw_p16, List.forall_mem_cons.mpr ⟨lw_p17, List.forall_mem_cons.mpr ⟨lw_p18, List.forall_mem_cons.mpr ⟨lw_p19, List.forall_mem_cons.mpr ⟨lw_p20, List.forall_mem_cons.mpr ⟨lw_p21, List.forall_mem_cons.mpr ⟨lw_p22, List.forall_mem_cons.mpr ⟨lw_p23, List.forall_mem_cons.mpr ⟨lw_p24, List.forall_mem_cons.mpr ⟨lw_p25, List.forall_mem_cons.mpr ⟨lw_p26, List.forall_mem_cons.mpr ⟨lw_p27, List.forall_mem_cons.mpr ⟨lw_p28, List.forall_mem_cons.mpr ⟨lw_p29, List.forall_mem_cons.mpr ⟨lw_p30, List.forall_mem_cons.mpr ⟨lw_p31, fun _ h => absurd h List.not_mem_nil⟩⟩⟩⟩⟩⟩⟩⟩⟩⟩⟩⟩⟩⟩⟩⟩
theorem lw_p32 : lw_okq (⟨"WrongRoom", "minutesBy", "(LWrongRoom$Going;III)I"⟩, 21) := ⟨⟨by decide +kernel, by decide +kernel⟩, lw_t1 (List.mem_of_getElem? (i := 32) rfl), lw_t4 (List.mem_of_getElem? (i := 226) rfl), lw_t4 (List.mem_of_getElem? (i := 227) rfl)⟩
theorem lw_p33 : lw_okq (⟨"WrongRoom$Ways", "comes", "(IIII)V"⟩, 8) := ⟨⟨by decide +kernel, by decide +kernel⟩, lw_t1 (List.mem_of_getElem? (i := 184) rfl), lw_t4 (List.mem_of_getElem? (i := 235) rfl), lw_t4 (List.mem_of_getElem? (i := 236) rfl)⟩
theorem lw_p34 : lw_okq (⟨"WrongRoom$Rows", "tries", "(II)V"⟩, 7) := ⟨⟨by decide +kernel, by decide +kernel⟩, lw_t1 (List.mem_of_getElem? (i := 232) rfl), lw_t5 (List.mem_of_getElem? (i := 56) rfl), lw_t5 (List.mem_of_getElem? (i := 57) rfl)⟩
theorem lw_p35 : lw_okq (⟨"WrongRoom$Rows", "note", "()V"⟩, 7) := ⟨⟨by decide +kernel, by decide +kernel⟩, lw_t1 (List.mem_of_getElem? (i := 232) rfl), lw_t5 (List.mem_of_getElem? (i := 60) rfl), lw_t5 (List.mem_of_getElem? (i := 61) rfl)⟩
theorem lw_p36 : lw_okq (⟨"WrongRoom", "askOf", "()I"⟩, 21) := ⟨⟨by decide +kernel, by decide +kernel⟩, lw_t1 (List.mem_of_getElem? (i := 32) rfl), lw_t5 (List.mem_of_getElem? (i := 100) rfl), lw_t5 (List.mem_of_getElem? (i := 101) rfl)⟩
theorem lw_p37 : lw_okq (⟨"WrongRoom", "shares", "(I)I"⟩, 21) := ⟨⟨by decide +kernel, by decide +kernel⟩, lw_t1 (List.mem_of_getElem? (i := 32) rfl), lw_t5 (List.mem_of_getElem? (i := 128) rfl), lw_t5 (List.mem_of_getElem? (i := 129) rfl)⟩
theorem lw_p38 : lw_okq (⟨"WrongRoom$Exchanges", "tries", "(II)V"⟩, 6) := ⟨⟨by decide +kernel, by decide +kernel⟩, lw_t2 (List.mem_of_getElem? (i := 21) rfl), lw_t5 (List.mem_of_getElem? (i := 154) rfl), lw_t5 (List.mem_of_getElem? (i := 155) rfl)⟩
theorem lw_p39 : lw_okq (⟨"WrongRoom", "doStand", "(I)Z"⟩, 21) := ⟨⟨by decide +kernel, by decide +kernel⟩, lw_t1 (List.mem_of_getElem? (i := 32) rfl), lw_t5 (List.mem_of_getElem? (i := 188) rfl), lw_t5 (List.mem_of_getElem? (i := 189) rfl)⟩
theorem lw_p40 : lw_okq (⟨"WrongRoom", "gainOf", "(IIII)I"⟩, 21) := ⟨⟨by decide +kernel, by decide +kernel⟩, lw_t1 (List.mem_of_getElem? (i := 32) rfl), lw_t5 (List.mem_of_getElem? (i := 196) rfl), lw_t5 (List.mem_of_getElem? (i := 197) rfl)⟩
theorem lw_p41 : lw_okq (⟨"WrongRoom", "worth", "(II)I"⟩, 21) := ⟨⟨by decide +kernel, by decide +kernel⟩, lw_t1 (List.mem_of_getElem? (i := 32) rfl), lw_t5 (List.mem_of_getElem? (i := 200) rfl), lw_t5 (List.mem_of_getElem? (i := 201) rfl)⟩
theorem lw_p42 : lw_okq (⟨"WrongRoom", "seekRests", "(II)I"⟩, 21) := ⟨⟨by decide +kernel, by decide +kernel⟩, lw_t1 (List.mem_of_getElem? (i := 32) rfl), lw_t5 (List.mem_of_getElem? (i := 211) rfl), lw_t5 (List.mem_of_getElem? (i := 212) rfl)⟩
theorem lw_p43 : lw_okq (⟨"WrongRoom", "isRest", "(IIII)Z"⟩, 21) := ⟨⟨by decide +kernel, by decide +kernel⟩, lw_t1 (List.mem_of_getElem? (i := 32) rfl), lw_t5 (List.mem_of_getElem? (i := 215) rfl), lw_t5 (List.mem_of_getElem? (i := 216) rfl)⟩
theorem lw_p44 : lw_okq (⟨"WrongRoom", "buildWhy", "(ZII)I"⟩, 21) := ⟨⟨by decide +kernel, by decide +kernel⟩, lw_t1 (List.mem_of_getElem? (i := 32) rfl), lw_t5 (List.mem_of_getElem? (i := 227) rfl), lw_t5 (List.mem_of_getElem? (i := 228) rfl)⟩
theorem lw_p45 : lw_okq (⟨"WrongRoom", "yes", "(I)Z"⟩, 21) := ⟨⟨by decide +kernel, by decide +kernel⟩, lw_t1 (List.mem_of_getElem? (i := 32) rfl), lw_t6 (List.mem_of_getElem? (i := 4) rfl), lw_t6 (List.mem_of_getElem? (i := 5) rfl)⟩
theorem lw_p46 : lw_okq (⟨"WrongRoom", "keep", "()V"⟩, 21) := ⟨⟨by decide +kernel, by decide +kernel⟩, lw_t1 (List.mem_of_getElem? (i := 32) rfl), lw_t6 (List.mem_of_getElem? (i := 8) rfl), lw_t6 (List.mem_of_getElem? (i := 9) rfl)⟩
theorem lw_p47 : lw_okq (⟨"WrongRoom", "done", "()Z"⟩, 21) := ⟨⟨by decide +kernel, by decide +kernel⟩, lw_t1 (List.mem_of_getElem? (i := 32) rfl), lw_t6 (List.mem_of_getElem? (i := 12) rfl), lw_t6 (List.mem_of_getElem? (i := 13) rfl)⟩
def lw_privs_3 : List (MethodName × Nat) := [(⟨"WrongRoom", "minutesBy", "(LWrongRoom$Going;III)I"⟩, 21), (⟨"WrongRoom$Ways", "comes", "(IIII)V"⟩, 8), (⟨"WrongRoom$Rows", "tries", "(II)V"⟩, 7), (⟨"WrongRoom$Rows", "note", "()V"⟩, 7), (⟨"WrongRoom", "askOf", "()I"⟩, 21), (⟨"WrongRoom", "shares", "(I)I"⟩, 21), (⟨"WrongRoom$Exchanges", "tries", "(II)V"⟩, 6), (⟨"WrongRoom", "doStand", "(I)Z"⟩, 21), (⟨"WrongRoom", "gainOf", "(IIII)I"⟩, 21), (⟨"WrongRoom", "worth", "(II)I"⟩, 21), (⟨"WrongRoom", "seekRests", "(II)I"⟩, 21), (⟨"WrongRoom", "isRest", "(IIII)Z"⟩, 21), (⟨"WrongRoom", "buildWhy", "(ZII)I"⟩, 21), (⟨"WrongRoom", "yes", "(I)Z"⟩, 21), (⟨"WrongRoom", "keep", "()V"⟩, 21), (⟨"WrongRoom", "done", "()Z"⟩, 21)]
theorem lw_r3 : ∀ q ∈ lw_privs_3, lw_okq q := List.forall_mem_cons.mpr ⟨lw_p32, List.forall_mem_cons.mpr ⟨lw_p33, List.forall_mem_cons.mpr ⟨lw_p34, List.forall_mem_cons.mpr ⟨lw_p35, List.forall_mem_cons.mpr ⟨lw_p36, List.forall_mem_cons.mpr ⟨lw_p37, List.forall_mem_cons.mpr ⟨lw_p38, List.forall_mem_cons.mpr ⟨lw_p39, List.forall_mem_cons.mpr ⟨lw_p40, List.forall_mem_cons.mpr ⟨lw_p41, List.forall_mem_cons.mpr ⟨lw_p42, List.forall_mem_cons.mpr ⟨lw_p43, List.forall_mem_cons.mpr ⟨lw_p44, List.forall_mem_cons.mpr ⟨lw_p45, List.forall_mem_cons.mpr ⟨lw_p46, List.forall_mem_cons.mpr ⟨lw_p47, fun _ h => absurd h List.not_mem_nil⟩⟩⟩⟩⟩⟩⟩⟩⟩⟩⟩⟩⟩⟩⟩⟩
theorem lw_p48 : lw_okq (⟨"WrongRoom", "known", "()I"⟩, 21) := ⟨⟨by decide +kernel, by decide +kernel⟩, lw_t1 (List.mem_of_getElem? (i := 32) rfl), lw_t6 (List.mem_of_getElem? (i := 51) rfl), lw_t6 (List.mem_of_getElem? (i := 52) rfl)⟩
theorem lw_p49 : lw_okq (⟨"WrongRoomModel", "refused", "(I)I"⟩, 39) := ⟨⟨by decide +kernel, by decide +kernel⟩, lw_t6 (List.mem_of_getElem? (i := 88) rfl), lw_t6 (List.mem_of_getElem? (i := 224) rfl), lw_t6 (List.mem_of_getElem? (i := 225) rfl)⟩
theorem lw_p50 : lw_okq (⟨"WrongRoomModel", "goesOn", "()V"⟩, 39) := ⟨⟨by decide +kernel, by decide +kernel⟩, lw_t6 (List.mem_of_getElem? (i := 88) rfl), lw_t7 (List.mem_of_getElem? (i := 98) rfl), lw_t7 (List.mem_of_getElem? (i := 99) rfl)⟩
theorem lw_p51 : lw_okq (⟨"WrongRoomModel", "byteAt", "(I)I"⟩, 39) := ⟨⟨by decide +kernel, by decide +kernel⟩, lw_t6 (List.mem_of_getElem? (i := 88) rfl), lw_t7 (List.mem_of_getElem? (i := 102) rfl), lw_t7 (List.mem_of_getElem? (i := 103) rfl)⟩
theorem lw_p52 : lw_okq (⟨"WrongRoomModel", "readAll", "()V"⟩, 39) := ⟨⟨by decide +kernel, by decide +kernel⟩, lw_t6 (List.mem_of_getElem? (i := 88) rfl), lw_t7 (List.mem_of_getElem? (i := 113) rfl), lw_t7 (List.mem_of_getElem? (i := 114) rfl)⟩
theorem lw_p53 : lw_okq (⟨"WrongRoomModel", "readLine", "()V"⟩, 39) := ⟨⟨by decide +kernel, by decide +kernel⟩, lw_t6 (List.mem_of_getElem? (i := 88) rfl), lw_t7 (List.mem_of_getElem? (i := 117) rfl), lw_t7 (List.mem_of_getElem? (i := 118) rfl)⟩
theorem lw_p54 : lw_okq (⟨"WrongRoomModel", "isWord", "(Ljava/lang/String;)Z"⟩, 39) := ⟨⟨by decide +kernel, by decide +kernel⟩, lw_t6 (List.mem_of_getElem? (i := 88) rfl), lw_t7 (List.mem_of_getElem? (i := 122) rfl), lw_t7 (List.mem_of_getElem? (i := 123) rfl)⟩
theorem lw_p55 : lw_okq (⟨"WrongRoomModel", "readTown", "()V"⟩, 39) := ⟨⟨by decide +kernel, by decide +kernel⟩, lw_t6 (List.mem_of_getElem? (i := 88) rfl), lw_t7 (List.mem_of_getElem? (i := 157) rfl), lw_t7 (List.mem_of_getElem? (i := 158) rfl)⟩
theorem lw_p56 : lw_okq (⟨"WrongRoomModel", "flaw", "(I)V"⟩, 39) := ⟨⟨by decide +kernel, by decide +kernel⟩, lw_t6 (List.mem_of_getElem? (i := 88) rfl), lw_t7 (List.mem_of_getElem? (i := 161) rfl), lw_t7 (List.mem_of_getElem? (i := 162) rfl)⟩
theorem lw_p57 : lw_okq (⟨"WrongRoomModel", "readPart", "(Ljava/lang/String;II)I"⟩, 39) := ⟨⟨by decide +kernel, by decide +kernel⟩, lw_t6 (List.mem_of_getElem? (i := 88) rfl), lw_t7 (List.mem_of_getElem? (i := 166) rfl), lw_t7 (List.mem_of_getElem? (i := 167) rfl)⟩
theorem lw_p58 : lw_okq (⟨"WrongRoomModel", "needs", "(Ljava/lang/String;)V"⟩, 39) := ⟨⟨by decide +kernel, by decide +kernel⟩, lw_t6 (List.mem_of_getElem? (i := 88) rfl), lw_t7 (List.mem_of_getElem? (i := 170) rfl), lw_t7 (List.mem_of_getElem? (i := 171) rfl)⟩
theorem lw_p59 : lw_okq (⟨"WrongRoomModel", "readWhole", "(II)I"⟩, 39) := ⟨⟨by decide +kernel, by decide +kernel⟩, lw_t6 (List.mem_of_getElem? (i := 88) rfl), lw_t7 (List.mem_of_getElem? (i := 174) rfl), lw_t7 (List.mem_of_getElem? (i := 175) rfl)⟩
theorem lw_p60 : lw_okq (⟨"WrongRoomModel", "readHouseLine", "()V"⟩, 39) := ⟨⟨by decide +kernel, by decide +kernel⟩, lw_t6 (List.mem_of_getElem? (i := 88) rfl), lw_t7 (List.mem_of_getElem? (i := 183) rfl), lw_t7 (List.mem_of_getElem? (i := 184) rfl)⟩
theorem lw_p61 : lw_okq (⟨"WrongRoomModel", "lineBegins", "(II)V"⟩, 39) := ⟨⟨by decide +kernel, by decide +kernel⟩, lw_t6 (List.mem_of_getElem? (i := 88) rfl), lw_t7 (List.mem_of_getElem? (i := 187) rfl), lw_t7 (List.mem_of_getElem? (i := 188) rfl)⟩
theorem lw_p62 : lw_okq (⟨"WrongRoomModel", "readFresh", "()J"⟩, 39) := ⟨⟨by decide +kernel, by decide +kernel⟩, lw_t6 (List.mem_of_getElem? (i := 88) rfl), lw_t7 (List.mem_of_getElem? (i := 191) rfl), lw_t7 (List.mem_of_getElem? (i := 192) rfl)⟩
theorem lw_p63 : lw_okq (⟨"WrongRoomModel", "isName", "()Z"⟩, 39) := ⟨⟨by decide +kernel, by decide +kernel⟩, lw_t6 (List.mem_of_getElem? (i := 88) rfl), lw_t7 (List.mem_of_getElem? (i := 195) rfl), lw_t7 (List.mem_of_getElem? (i := 196) rfl)⟩
def lw_privs_4 : List (MethodName × Nat) := [(⟨"WrongRoom", "known", "()I"⟩, 21), (⟨"WrongRoomModel", "refused", "(I)I"⟩, 39), (⟨"WrongRoomModel", "goesOn", "()V"⟩, 39), (⟨"WrongRoomModel", "byteAt", "(I)I"⟩, 39), (⟨"WrongRoomModel", "readAll", "()V"⟩, 39), (⟨"WrongRoomModel", "readLine", "()V"⟩, 39), (⟨"WrongRoomModel", "isWord", "(Ljava/lang/String;)Z"⟩, 39), (⟨"WrongRoomModel", "readTown", "()V"⟩, 39), (⟨"WrongRoomModel", "flaw", "(I)V"⟩, 39), (⟨"WrongRoomModel", "readPart", "(Ljava/lang/String;II)I"⟩, 39), (⟨"WrongRoomModel", "needs", "(Ljava/lang/String;)V"⟩, 39), (⟨"WrongRoomModel", "readWhole", "(II)I"⟩, 39), (⟨"WrongRoomModel", "readHouseLine", "()V"⟩, 39), (⟨"WrongRoomModel", "lineBegins", "(II)V"⟩, 39), (⟨"WrongRoomModel", "readFresh", "()J"⟩, 39), (⟨"WrongRoomModel", "isName", "()Z"⟩, 39)]
theorem lw_r4 : ∀ q ∈ lw_privs_4, lw_okq q := List.forall_mem_cons.mpr ⟨lw_p48, List.forall_mem_cons.mpr ⟨lw_p49, List.forall_mem_cons.mpr ⟨lw_p50, List.forall_mem_cons.mpr ⟨lw_p51, List.forall_mem_cons.mpr ⟨lw_p52, List.forall_mem_cons.mpr ⟨lw_p53, List.forall_mem_cons.mpr ⟨lw_p54, List.forall_mem_cons.mpr ⟨lw_p55, List.forall_mem_cons.mpr ⟨lw_p56, List.forall_mem_cons.mpr ⟨lw_p57, List.forall_mem_cons.mpr ⟨lw_p58, List.forall_mem_cons.mpr ⟨lw_p59, List.forall_mem_cons.mpr ⟨lw_p60, List.forall_mem_cons.mpr ⟨lw_p61, List.forall_mem_cons.mpr ⟨lw_p62, List.forall_mem_cons.mpr ⟨lw_p63, fun _ h => absurd h List.not_mem_nil⟩⟩⟩⟩⟩⟩⟩⟩⟩⟩⟩⟩⟩⟩⟩⟩
theorem lw_p64 : lw_okq (⟨"WrongRoomModel", "readWord", "()J"⟩, 39) := ⟨⟨by decide +kernel, by decide +kernel⟩, lw_t6 (List.mem_of_getElem? (i := 88) rfl), lw_t7 (List.mem_of_getElem? (i := 213) rfl), lw_t7 (List.mem_of_getElem? (i := 214) rfl)⟩
theorem lw_p65 : lw_okq (⟨"WrongRoomModel", "names", "(JII)V"⟩, 39) := ⟨⟨by decide +kernel, by decide +kernel⟩, lw_t6 (List.mem_of_getElem? (i := 88) rfl), lw_t7 (List.mem_of_getElem? (i := 217) rfl), lw_t7 (List.mem_of_getElem? (i := 218) rfl)⟩
theorem lw_p66 : lw_okq (⟨"WrongRoomModel", "readWrong", "()V"⟩, 39) := ⟨⟨by decide +kernel, by decide +kernel⟩, lw_t6 (List.mem_of_getElem? (i := 88) rfl), lw_t7 (List.mem_of_getElem? (i := 221) rfl), lw_t7 (List.mem_of_getElem? (i := 222) rfl)⟩
theorem lw_p67 : lw_okq (⟨"WrongRoomModel", "knownHouse", "()I"⟩, 39) := ⟨⟨by decide +kernel, by decide +kernel⟩, lw_t6 (List.mem_of_getElem? (i := 88) rfl), lw_t7 (List.mem_of_getElem? (i := 225) rfl), lw_t7 (List.mem_of_getElem? (i := 226) rfl)⟩
theorem lw_p68 : lw_okq (⟨"WrongRoomModel", "readOpen", "()V"⟩, 39) := ⟨⟨by decide +kernel, by decide +kernel⟩, lw_t6 (List.mem_of_getElem? (i := 88) rfl), lw_t7 (List.mem_of_getElem? (i := 234) rfl), lw_t7 (List.mem_of_getElem? (i := 235) rfl)⟩
theorem lw_p69 : lw_okq (⟨"WrongRoomModel", "readStreet", "()V"⟩, 39) := ⟨⟨by decide +kernel, by decide +kernel⟩, lw_t6 (List.mem_of_getElem? (i := 88) rfl), lw_t8 (List.mem_of_getElem? (i := 4) rfl), lw_t8 (List.mem_of_getElem? (i := 5) rfl)⟩
theorem lw_p70 : lw_okq (⟨"WrongRoomModel", "readHouse", "()I"⟩, 39) := ⟨⟨by decide +kernel, by decide +kernel⟩, lw_t6 (List.mem_of_getElem? (i := 88) rfl), lw_t8 (List.mem_of_getElem? (i := 8) rfl), lw_t8 (List.mem_of_getElem? (i := 9) rfl)⟩
theorem lw_p71 : lw_okq (⟨"WrongRoomModel", "readPerson", "()V"⟩, 39) := ⟨⟨by decide +kernel, by decide +kernel⟩, lw_t6 (List.mem_of_getElem? (i := 88) rfl), lw_t8 (List.mem_of_getElem? (i := 13) rfl), lw_t8 (List.mem_of_getElem? (i := 14) rfl)⟩
theorem lw_p72 : lw_okq (⟨"WrongRoomModel", "readPartHouse", "(Ljava/lang/String;)I"⟩, 39) := ⟨⟨by decide +kernel, by decide +kernel⟩, lw_t6 (List.mem_of_getElem? (i := 88) rfl), lw_t8 (List.mem_of_getElem? (i := 18) rfl), lw_t8 (List.mem_of_getElem? (i := 19) rfl)⟩
theorem lw_p73 : lw_okq (⟨"WrongRoomModel", "readSign", "()V"⟩, 39) := ⟨⟨by decide +kernel, by decide +kernel⟩, lw_t6 (List.mem_of_getElem? (i := 88) rfl), lw_t8 (List.mem_of_getElem? (i := 23) rfl), lw_t8 (List.mem_of_getElem? (i := 24) rfl)⟩
theorem lw_p74 : lw_okq (⟨"WrongRoomModel", "readNoise", "()V"⟩, 39) := ⟨⟨by decide +kernel, by decide +kernel⟩, lw_t6 (List.mem_of_getElem? (i := 88) rfl), lw_t8 (List.mem_of_getElem? (i := 27) rfl), lw_t8 (List.mem_of_getElem? (i := 28) rfl)⟩
theorem lw_p75 : lw_okq (⟨"WrongRoomModel", "eatsSemicolon", "()Z"⟩, 39) := ⟨⟨by decide +kernel, by decide +kernel⟩, lw_t6 (List.mem_of_getElem? (i := 88) rfl), lw_t8 (List.mem_of_getElem? (i := 31) rfl), lw_t8 (List.mem_of_getElem? (i := 32) rfl)⟩
theorem lw_p76 : lw_okq (⟨"WrongRoomModel", "laysStreets", "()V"⟩, 39) := ⟨⟨by decide +kernel, by decide +kernel⟩, lw_t6 (List.mem_of_getElem? (i := 88) rfl), lw_t8 (List.mem_of_getElem? (i := 35) rfl), lw_t8 (List.mem_of_getElem? (i := 36) rfl)⟩
theorem lw_p77 : lw_okq (⟨"WrongRoomModel", "good", "(I)I"⟩, 39) := ⟨⟨by decide +kernel, by decide +kernel⟩, lw_t6 (List.mem_of_getElem? (i := 88) rfl), lw_t8 (List.mem_of_getElem? (i := 40) rfl), lw_t8 (List.mem_of_getElem? (i := 41) rfl)⟩
theorem lw_p78 : lw_okq (⟨"WrongRoomModel", "isHouse", "(I)Z"⟩, 39) := ⟨⟨by decide +kernel, by decide +kernel⟩, lw_t6 (List.mem_of_getElem? (i := 88) rfl), lw_t8 (List.mem_of_getElem? (i := 56) rfl), lw_t8 (List.mem_of_getElem? (i := 57) rfl)⟩
theorem lw_p79 : lw_okq (⟨"WrongRoomModel", "whose", "(I)I"⟩, 39) := ⟨⟨by decide +kernel, by decide +kernel⟩, lw_t6 (List.mem_of_getElem? (i := 88) rfl), lw_t8 (List.mem_of_getElem? (i := 60) rfl), lw_t8 (List.mem_of_getElem? (i := 61) rfl)⟩
def lw_privs_5 : List (MethodName × Nat) := [(⟨"WrongRoomModel", "readWord", "()J"⟩, 39), (⟨"WrongRoomModel", "names", "(JII)V"⟩, 39), (⟨"WrongRoomModel", "readWrong", "()V"⟩, 39), (⟨"WrongRoomModel", "knownHouse", "()I"⟩, 39), (⟨"WrongRoomModel", "readOpen", "()V"⟩, 39), (⟨"WrongRoomModel", "readStreet", "()V"⟩, 39), (⟨"WrongRoomModel", "readHouse", "()I"⟩, 39), (⟨"WrongRoomModel", "readPerson", "()V"⟩, 39), (⟨"WrongRoomModel", "readPartHouse", "(Ljava/lang/String;)I"⟩, 39), (⟨"WrongRoomModel", "readSign", "()V"⟩, 39), (⟨"WrongRoomModel", "readNoise", "()V"⟩, 39), (⟨"WrongRoomModel", "eatsSemicolon", "()Z"⟩, 39), (⟨"WrongRoomModel", "laysStreets", "()V"⟩, 39), (⟨"WrongRoomModel", "good", "(I)I"⟩, 39), (⟨"WrongRoomModel", "isHouse", "(I)Z"⟩, 39), (⟨"WrongRoomModel", "whose", "(I)I"⟩, 39)]
theorem lw_r5 : ∀ q ∈ lw_privs_5, lw_okq q := List.forall_mem_cons.mpr ⟨lw_p64, List.forall_mem_cons.mpr ⟨lw_p65, List.forall_mem_cons.mpr ⟨lw_p66, List.forall_mem_cons.mpr ⟨lw_p67, List.forall_mem_cons.mpr ⟨lw_p68, List.forall_mem_cons.mpr ⟨lw_p69, List.forall_mem_cons.mpr ⟨lw_p70, List.forall_mem_cons.mpr ⟨lw_p71, List.forall_mem_cons.mpr ⟨lw_p72, List.forall_mem_cons.mpr ⟨lw_p73, List.forall_mem_cons.mpr ⟨lw_p74, List.forall_mem_cons.mpr ⟨lw_p75, List.forall_mem_cons.mpr ⟨lw_p76, List.forall_mem_cons.mpr ⟨lw_p77, List.forall_mem_cons.mpr ⟨lw_p78, List.forall_mem_cons.mpr ⟨lw_p79, fun _ h => absurd h List.not_mem_nil⟩⟩⟩⟩⟩⟩⟩⟩⟩⟩⟩⟩⟩⟩⟩⟩
theorem lw_p80 : lw_okq (⟨"WrongRoomModel", "isOpenAt", "(II)Z"⟩, 39) := ⟨⟨by decide +kernel, by decide +kernel⟩, lw_t6 (List.mem_of_getElem? (i := 88) rfl), lw_t8 (List.mem_of_getElem? (i := 71) rfl), lw_t8 (List.mem_of_getElem? (i := 72) rfl)⟩
theorem lw_p81 : lw_okq (⟨"WrongRoomModel", "isPerson", "(I)Z"⟩, 39) := ⟨⟨by decide +kernel, by decide +kernel⟩, lw_t6 (List.mem_of_getElem? (i := 88) rfl), lw_t8 (List.mem_of_getElem? (i := 89) rfl), lw_t8 (List.mem_of_getElem? (i := 90) rfl)⟩
theorem lw_p82 : lw_okq (⟨"WrongRoomModel", "tries", "()V"⟩, 39) := ⟨⟨by decide +kernel, by decide +kernel⟩, lw_t6 (List.mem_of_getElem? (i := 88) rfl), lw_t8 (List.mem_of_getElem? (i := 105) rfl), lw_t8 (List.mem_of_getElem? (i := 106) rfl)⟩
theorem lw_p83 : lw_okq (⟨"WrongRoomModel", "refusesWay", "(ZI)I"⟩, 39) := ⟨⟨by decide +kernel, by decide +kernel⟩, lw_t6 (List.mem_of_getElem? (i := 88) rfl), lw_t8 (List.mem_of_getElem? (i := 120) rfl), lw_t8 (List.mem_of_getElem? (i := 121) rfl)⟩
theorem lw_p84 : lw_okq (⟨"WrongRoomModel", "soonest", "(IIIZ)I"⟩, 39) := ⟨⟨by decide +kernel, by decide +kernel⟩, lw_t6 (List.mem_of_getElem? (i := 88) rfl), lw_t8 (List.mem_of_getElem? (i := 124) rfl), lw_t8 (List.mem_of_getElem? (i := 125) rfl)⟩
theorem lw_p85 : lw_okq (⟨"WrongRoomModel", "ways", "(IIIZ)V"⟩, 39) := ⟨⟨by decide +kernel, by decide +kernel⟩, lw_t6 (List.mem_of_getElem? (i := 88) rfl), lw_t8 (List.mem_of_getElem? (i := 128) rfl), lw_t8 (List.mem_of_getElem? (i := 129) rfl)⟩
theorem lw_p86 : lw_okq (⟨"WrongRoomModel", "ends", "(I)V"⟩, 39) := ⟨⟨by decide +kernel, by decide +kernel⟩, lw_t6 (List.mem_of_getElem? (i := 88) rfl), lw_t8 (List.mem_of_getElem? (i := 132) rfl), lw_t8 (List.mem_of_getElem? (i := 133) rfl)⟩
theorem lw_p87 : lw_okq (⟨"WrongRoomModel", "canStep", "(IZ)Z"⟩, 39) := ⟨⟨by decide +kernel, by decide +kernel⟩, lw_t6 (List.mem_of_getElem? (i := 88) rfl), lw_t8 (List.mem_of_getElem? (i := 136) rfl), lw_t8 (List.mem_of_getElem? (i := 137) rfl)⟩
theorem lw_p88 : lw_okq (⟨"WrongRoomModel", "steps", "(IIIZ)I"⟩, 39) := ⟨⟨by decide +kernel, by decide +kernel⟩, lw_t6 (List.mem_of_getElem? (i := 88) rfl), lw_t8 (List.mem_of_getElem? (i := 140) rfl), lw_t8 (List.mem_of_getElem? (i := 141) rfl)⟩
theorem lw_p89 : lw_okq (⟨"WrongRoomModel", "fitting", "()V"⟩, 39) := ⟨⟨by decide +kernel, by decide +kernel⟩, lw_t6 (List.mem_of_getElem? (i := 88) rfl), lw_t8 (List.mem_of_getElem? (i := 164) rfl), lw_t8 (List.mem_of_getElem? (i := 165) rfl)⟩
theorem lw_p90 : lw_okq (⟨"WrongRoomModel", "countsRow", "()V"⟩, 39) := ⟨⟨by decide +kernel, by decide +kernel⟩, lw_t6 (List.mem_of_getElem? (i := 88) rfl), lw_t8 (List.mem_of_getElem? (i := 168) rfl), lw_t8 (List.mem_of_getElem? (i := 169) rfl)⟩
theorem lw_p91 : lw_okq (⟨"WrongRoomModel", "isFitting", "(I)Z"⟩, 39) := ⟨⟨by decide +kernel, by decide +kernel⟩, lw_t6 (List.mem_of_getElem? (i := 88) rfl), lw_t8 (List.mem_of_getElem? (i := 172) rfl), lw_t8 (List.mem_of_getElem? (i := 173) rfl)⟩
theorem lw_p92 : lw_okq (⟨"WrongRoomModel", "asks", "()I"⟩, 39) := ⟨⟨by decide +kernel, by decide +kernel⟩, lw_t6 (List.mem_of_getElem? (i := 88) rfl), lw_t8 (List.mem_of_getElem? (i := 196) rfl), lw_t8 (List.mem_of_getElem? (i := 197) rfl)⟩
theorem lw_p93 : lw_okq (⟨"WrongRoomModel", "owedBy", "(I)I"⟩, 39) := ⟨⟨by decide +kernel, by decide +kernel⟩, lw_t6 (List.mem_of_getElem? (i := 88) rfl), lw_t8 (List.mem_of_getElem? (i := 208) rfl), lw_t8 (List.mem_of_getElem? (i := 209) rfl)⟩
theorem lw_p94 : lw_okq (⟨"WrongRoomModel", "partsBy", "(I)I"⟩, 39) := ⟨⟨by decide +kernel, by decide +kernel⟩, lw_t6 (List.mem_of_getElem? (i := 88) rfl), lw_t8 (List.mem_of_getElem? (i := 212) rfl), lw_t8 (List.mem_of_getElem? (i := 213) rfl)⟩
theorem lw_p95 : lw_okq (⟨"WrongRoomModel", "fraction", "(JJZ)J"⟩, 39) := ⟨⟨by decide +kernel, by decide +kernel⟩, lw_t6 (List.mem_of_getElem? (i := 88) rfl), lw_t8 (List.mem_of_getElem? (i := 216) rfl), lw_t8 (List.mem_of_getElem? (i := 217) rfl)⟩
def lw_privs_6 : List (MethodName × Nat) := [(⟨"WrongRoomModel", "isOpenAt", "(II)Z"⟩, 39), (⟨"WrongRoomModel", "isPerson", "(I)Z"⟩, 39), (⟨"WrongRoomModel", "tries", "()V"⟩, 39), (⟨"WrongRoomModel", "refusesWay", "(ZI)I"⟩, 39), (⟨"WrongRoomModel", "soonest", "(IIIZ)I"⟩, 39), (⟨"WrongRoomModel", "ways", "(IIIZ)V"⟩, 39), (⟨"WrongRoomModel", "ends", "(I)V"⟩, 39), (⟨"WrongRoomModel", "canStep", "(IZ)Z"⟩, 39), (⟨"WrongRoomModel", "steps", "(IIIZ)I"⟩, 39), (⟨"WrongRoomModel", "fitting", "()V"⟩, 39), (⟨"WrongRoomModel", "countsRow", "()V"⟩, 39), (⟨"WrongRoomModel", "isFitting", "(I)Z"⟩, 39), (⟨"WrongRoomModel", "asks", "()I"⟩, 39), (⟨"WrongRoomModel", "owedBy", "(I)I"⟩, 39), (⟨"WrongRoomModel", "partsBy", "(I)I"⟩, 39), (⟨"WrongRoomModel", "fraction", "(JJZ)J"⟩, 39)]
theorem lw_r6 : ∀ q ∈ lw_privs_6, lw_okq q := List.forall_mem_cons.mpr ⟨lw_p80, List.forall_mem_cons.mpr ⟨lw_p81, List.forall_mem_cons.mpr ⟨lw_p82, List.forall_mem_cons.mpr ⟨lw_p83, List.forall_mem_cons.mpr ⟨lw_p84, List.forall_mem_cons.mpr ⟨lw_p85, List.forall_mem_cons.mpr ⟨lw_p86, List.forall_mem_cons.mpr ⟨lw_p87, List.forall_mem_cons.mpr ⟨lw_p88, List.forall_mem_cons.mpr ⟨lw_p89, List.forall_mem_cons.mpr ⟨lw_p90, List.forall_mem_cons.mpr ⟨lw_p91, List.forall_mem_cons.mpr ⟨lw_p92, List.forall_mem_cons.mpr ⟨lw_p93, List.forall_mem_cons.mpr ⟨lw_p94, List.forall_mem_cons.mpr ⟨lw_p95, fun _ h => absurd h List.not_mem_nil⟩⟩⟩⟩⟩⟩⟩⟩⟩⟩⟩⟩⟩⟩⟩⟩
theorem lw_p96 : lw_okq (⟨"WrongRoomModel", "seeks", "()V"⟩, 39) := ⟨⟨by decide +kernel, by decide +kernel⟩, lw_t6 (List.mem_of_getElem? (i := 88) rfl), lw_t8 (List.mem_of_getElem? (i := 236) rfl), lw_t8 (List.mem_of_getElem? (i := 237) rfl)⟩
theorem lw_p97 : lw_okq (⟨"WrongRoomModel", "seeksOf", "(I)V"⟩, 39) := ⟨⟨by decide +kernel, by decide +kernel⟩, lw_t6 (List.mem_of_getElem? (i := 88) rfl), lw_t9 (List.mem_of_getElem? (i := 0) rfl), lw_t9 (List.mem_of_getElem? (i := 1) rfl)⟩
theorem lw_p98 : lw_okq (⟨"WrongRoomModel", "areDone", "(I)Z"⟩, 39) := ⟨⟨by decide +kernel, by decide +kernel⟩, lw_t6 (List.mem_of_getElem? (i := 88) rfl), lw_t9 (List.mem_of_getElem? (i := 4) rfl), lw_t9 (List.mem_of_getElem? (i := 5) rfl)⟩
theorem lw_p99 : lw_okq (⟨"WrongRoomModel", "nextPairs", "(I)Z"⟩, 39) := ⟨⟨by decide +kernel, by decide +kernel⟩, lw_t6 (List.mem_of_getElem? (i := 88) rfl), lw_t9 (List.mem_of_getElem? (i := 17) rfl), lw_t9 (List.mem_of_getElem? (i := 18) rfl)⟩
theorem lw_p100 : lw_okq (⟨"WrongRoomModel", "isStand", "(II)Z"⟩, 39) := ⟨⟨by decide +kernel, by decide +kernel⟩, lw_t6 (List.mem_of_getElem? (i := 88) rfl), lw_t9 (List.mem_of_getElem? (i := 33) rfl), lw_t9 (List.mem_of_getElem? (i := 34) rfl)⟩
theorem lw_p101 : lw_okq (⟨"WrongRoomModel", "tenants", "(IIII)I"⟩, 39) := ⟨⟨by decide +kernel, by decide +kernel⟩, lw_t6 (List.mem_of_getElem? (i := 88) rfl), lw_t9 (List.mem_of_getElem? (i := 41) rfl), lw_t9 (List.mem_of_getElem? (i := 42) rfl)⟩
theorem lw_p102 : lw_okq (⟨"WrongRoomModel", "worthOf", "(II)I"⟩, 39) := ⟨⟨by decide +kernel, by decide +kernel⟩, lw_t6 (List.mem_of_getElem? (i := 88) rfl), lw_t9 (List.mem_of_getElem? (i := 45) rfl), lw_t9 (List.mem_of_getElem? (i := 46) rfl)⟩
theorem lw_p103 : lw_okq (⟨"WrongRoomModel", "isRest", "(IIII)Z"⟩, 39) := ⟨⟨by decide +kernel, by decide +kernel⟩, lw_t6 (List.mem_of_getElem? (i := 88) rfl), lw_t9 (List.mem_of_getElem? (i := 53) rfl), lw_t9 (List.mem_of_getElem? (i := 54) rfl)⟩
theorem lw_p104 : lw_okq (⟨"WrongRoomModel", "builds", "(ZII)I"⟩, 39) := ⟨⟨by decide +kernel, by decide +kernel⟩, lw_t6 (List.mem_of_getElem? (i := 88) rfl), lw_t9 (List.mem_of_getElem? (i := 65) rfl), lw_t9 (List.mem_of_getElem? (i := 66) rfl)⟩
theorem lw_p105 : lw_okq (⟨"WrongRoomModel", "drawn", "()I"⟩, 39) := ⟨⟨by decide +kernel, by decide +kernel⟩, lw_t6 (List.mem_of_getElem? (i := 88) rfl), lw_t9 (List.mem_of_getElem? (i := 70) rfl), lw_t9 (List.mem_of_getElem? (i := 71) rfl)⟩
theorem lw_p106 : lw_okq (⟨"WrongRoomModel", "denied", "(I)Z"⟩, 39) := ⟨⟨by decide +kernel, by decide +kernel⟩, lw_t6 (List.mem_of_getElem? (i := 88) rfl), lw_t9 (List.mem_of_getElem? (i := 85) rfl), lw_t9 (List.mem_of_getElem? (i := 86) rfl)⟩
theorem lw_p107 : lw_okq (⟨"WrongRoomModel", "remembers", "()V"⟩, 39) := ⟨⟨by decide +kernel, by decide +kernel⟩, lw_t6 (List.mem_of_getElem? (i := 88) rfl), lw_t9 (List.mem_of_getElem? (i := 89) rfl), lw_t9 (List.mem_of_getElem? (i := 90) rfl)⟩
theorem lw_p108 : lw_okq (⟨"WrongRoomModel", "granted", "()Z"⟩, 39) := ⟨⟨by decide +kernel, by decide +kernel⟩, lw_t6 (List.mem_of_getElem? (i := 88) rfl), lw_t9 (List.mem_of_getElem? (i := 93) rfl), lw_t9 (List.mem_of_getElem? (i := 94) rfl)⟩
theorem lw_p109 : lw_okq (⟨"WrongRoomModel", "known", "()I"⟩, 39) := ⟨⟨by decide +kernel, by decide +kernel⟩, lw_t6 (List.mem_of_getElem? (i := 88) rfl), lw_t9 (List.mem_of_getElem? (i := 129) rfl), lw_t9 (List.mem_of_getElem? (i := 130) rfl)⟩
def lw_privs_7 : List (MethodName × Nat) := [(⟨"WrongRoomModel", "seeks", "()V"⟩, 39), (⟨"WrongRoomModel", "seeksOf", "(I)V"⟩, 39), (⟨"WrongRoomModel", "areDone", "(I)Z"⟩, 39), (⟨"WrongRoomModel", "nextPairs", "(I)Z"⟩, 39), (⟨"WrongRoomModel", "isStand", "(II)Z"⟩, 39), (⟨"WrongRoomModel", "tenants", "(IIII)I"⟩, 39), (⟨"WrongRoomModel", "worthOf", "(II)I"⟩, 39), (⟨"WrongRoomModel", "isRest", "(IIII)Z"⟩, 39), (⟨"WrongRoomModel", "builds", "(ZII)I"⟩, 39), (⟨"WrongRoomModel", "drawn", "()I"⟩, 39), (⟨"WrongRoomModel", "denied", "(I)Z"⟩, 39), (⟨"WrongRoomModel", "remembers", "()V"⟩, 39), (⟨"WrongRoomModel", "granted", "()Z"⟩, 39), (⟨"WrongRoomModel", "known", "()I"⟩, 39)]
theorem lw_r7 : ∀ q ∈ lw_privs_7, lw_okq q := List.forall_mem_cons.mpr ⟨lw_p96, List.forall_mem_cons.mpr ⟨lw_p97, List.forall_mem_cons.mpr ⟨lw_p98, List.forall_mem_cons.mpr ⟨lw_p99, List.forall_mem_cons.mpr ⟨lw_p100, List.forall_mem_cons.mpr ⟨lw_p101, List.forall_mem_cons.mpr ⟨lw_p102, List.forall_mem_cons.mpr ⟨lw_p103, List.forall_mem_cons.mpr ⟨lw_p104, List.forall_mem_cons.mpr ⟨lw_p105, List.forall_mem_cons.mpr ⟨lw_p106, List.forall_mem_cons.mpr ⟨lw_p107, List.forall_mem_cons.mpr ⟨lw_p108, List.forall_mem_cons.mpr ⟨lw_p109, fun _ h => absurd h List.not_mem_nil⟩⟩⟩⟩⟩⟩⟩⟩⟩⟩⟩⟩⟩⟩
def lw_privs : List (MethodName × Nat) := lw_privs_1 ++ (lw_privs_2 ++ (lw_privs_3 ++ (lw_privs_4 ++ (lw_privs_5 ++ (lw_privs_6 ++ (lw_privs_7))))))
def lw_tbl : List Cond := k2_sels lw_privs ++ tables_1
theorem lw_privs_ok : ∀ q ∈ lw_privs, lw_okq q := by
  show ∀ q ∈ lw_privs_1 ++ (lw_privs_2 ++ (lw_privs_3 ++ (lw_privs_4 ++ (lw_privs_5 ++ (lw_privs_6 ++ (lw_privs_7)))))), lw_okq q
  exact List.forall_mem_append.mpr ⟨lw_r1, List.forall_mem_append.mpr ⟨lw_r2, List.forall_mem_append.mpr ⟨lw_r3, List.forall_mem_append.mpr ⟨lw_r4, List.forall_mem_append.mpr ⟨lw_r5, List.forall_mem_append.mpr ⟨lw_r6, lw_r7⟩⟩⟩⟩⟩⟩
-- ===== ONE list of words for every method: the tables' words that hold all through a run =====
def lw_all : List Cond := lw_tbl.filter goodWord
/-- a word of the tables by its place: claim/WORDS.tsv -/
theorem lw_w {w : Cond} (i : Nat) (h : lw_tbl[i]? = some w) (g : goodWord w = true) : w ∈ lw_all := List.mem_filter.mpr ⟨List.mem_of_getElem? h, g⟩
theorem lw_all_tbl {w : Cond} (h : w ∈ lw_all) : w ∈ lw_tbl := (List.mem_filter.mp h).1
theorem lw_self : GoodIn lw_all lw_all := fun w h => ⟨h, good_of_word (List.mem_filter.mp h).2⟩
/-- a class's field words, by their places -/
theorem lw_in (ws : List Cond) (ps : List Nat) (hp : ws = ps.filterMap (fun i => lw_tbl[i]?)) (hg : ws.all goodWord = true) : ∀ w ∈ ws, w ∈ lw_all := by
  intro w h
  have h1 := List.all_eq_true.mp hg w h
  rw [hp] at h
  obtain ⟨i, -, hi⟩ := List.mem_filterMap.mp h
  exact lw_w i hi h1
/-- the words of a contract for the method y with code b, L locals, answer r -/
abbrev ws_ (y : MethodName) (b : ByteArray) (L : Nat) (r : Option FieldType) : List Cond := Cond.code y b L r :: lw_all
theorem lw_meth {y : MethodName} {b : ByteArray} {L : Nat} {r : Option FieldType} (h : Cond.code y b L r ∈ lw_all) : GoodIn lw_all (ws_ y b L r) := by
  intro w hw
  rcases List.mem_cons.mp hw with e | e
  · rw [e]
    exact lw_self _ h
  · exact lw_self _ e
theorem lw_app {a c : List Cond} (ha : ∀ w ∈ a, w ∈ lw_all) (hc : GoodIn lw_all c) : GoodIn lw_all (a ++ c) := by
  intro w hw
  rcases List.mem_append.mp hw with e | e
  · exact lw_self w (ha w e)
  · exact hc w e
/-- what a call through an object asks: cwV n hts (lw_V ..) -/
theorem lw_V {own : String} {idx : Nat} {C : String} {y : MethodName} {b : ByteArray} {L : Nat} {r : Option FieldType} (h1 : Cond.methodLink own idx y ∈ lw_all) (h2 : Cond.instanceMethod y ∈ lw_all) (h3 : Cond.selects C y y ∈ lw_all) (h4 : Cond.initialized C ∈ lw_all) (h5 : Cond.code y b L r ∈ lw_all) : GoodIn lw_all (wsV own idx C y (ws_ y b L r)) := by
  refine lw_app ?_ (lw_meth h5)
  intro w hw
  simp only [List.mem_cons, List.not_mem_nil, or_false] at hw
  rcases hw with e | e | e | e
  · rw [e]; exact h1
  · rw [e]; exact h2
  · rw [e]; exact h3
  · rw [e]; exact h4
/-- what a static call asks: va_cwS n hts (lw_S ..) -/
theorem lw_S {own : String} {idx : Nat} {y : MethodName} {b : ByteArray} {L : Nat} {r : Option FieldType} (h1 : Cond.methodLink own idx y ∈ lw_all) (h2 : Cond.static y ∈ lw_all) (h3 : Cond.initialized y.cls ∈ lw_all) (h4 : Cond.code y b L r ∈ lw_all) : GoodIn lw_all (va_wsS own idx y (ws_ y b L r)) := by
  refine lw_app ?_ (lw_meth h4)
  intro w hw
  simp only [List.mem_cons, List.not_mem_nil, or_false] at hw
  rcases hw with e | e | e
  · rw [e]; exact h1
  · rw [e]; exact h2
  · rw [e]; exact h3
/-- the words of a contract for a method WITH HANDLERS (hh: its table) -/
abbrev wsW_ (y : MethodName) (b : ByteArray) (L : Nat) (r : Option FieldType) (hh : List (Nat × Nat × Nat × Nat)) : List Cond := Cond.codeWith y b L r hh :: lw_all
theorem lw_methW {y : MethodName} {b : ByteArray} {L : Nat} {r : Option FieldType} {hh : List (Nat × Nat × Nat × Nat)} (h : Cond.codeWith y b L r hh ∈ lw_all) : GoodIn lw_all (wsW_ y b L r hh) := by
  intro w hw
  rcases List.mem_cons.mp hw with e | e
  · rw [e]
    exact lw_self _ h
  · exact lw_self _ e
/-- any list of words by their places (lw_in), good -/
theorem lw_good {ws : List Cond} (h : ∀ w ∈ ws, w ∈ lw_all) : GoodIn lw_all ws := fun w hw => lw_self w (h w hw)
/-- what a call of a method with handlers asks: vx_cwVW n hts (lw_VW ..), vx_cwSW n hts (lw_SW ..) -/
theorem lw_VW {own : String} {idx : Nat} {C : String} {y : MethodName} {b : ByteArray} {L : Nat} {r : Option FieldType} {hh : List (Nat × Nat × Nat × Nat)} (h1 : Cond.methodLink own idx y ∈ lw_all) (h2 : Cond.instanceMethod y ∈ lw_all) (h3 : Cond.selects C y y ∈ lw_all) (h4 : Cond.initialized C ∈ lw_all) (h5 : Cond.codeWith y b L r hh ∈ lw_all) : GoodIn lw_all (wsV own idx C y (wsW_ y b L r hh)) := by
  refine lw_app ?_ (lw_methW h5)
  intro w hw
  simp only [List.mem_cons, List.not_mem_nil, or_false] at hw
  rcases hw with e | e | e | e
  · rw [e]; exact h1
  · rw [e]; exact h2
  · rw [e]; exact h3
  · rw [e]; exact h4
theorem lw_SW {own : String} {idx : Nat} {y : MethodName} {b : ByteArray} {L : Nat} {r : Option FieldType} {hh : List (Nat × Nat × Nat × Nat)} (h1 : Cond.methodLink own idx y ∈ lw_all) (h2 : Cond.static y ∈ lw_all) (h3 : Cond.initialized y.cls ∈ lw_all) (h4 : Cond.codeWith y b L r hh ∈ lw_all) : GoodIn lw_all (va_wsS own idx y (wsW_ y b L r hh)) := by
  refine lw_app ?_ (lw_methW h4)
  intro w hw
  simp only [List.mem_cons, List.not_mem_nil, or_false] at hw
  rcases hw with e | e | e
  · rw [e]; exact h1
  · rw [e]; exact h2
  · rw [e]; exact h3
/-- a word by its place in its run of the tables -/
theorem lw_at {r : List Cond} (hr : ∀ w ∈ r, w ∈ lw_tbl) {w : Cond} (i : Nat) (h : r[i]? = some w) : w ∈ lw_tbl := hr w (List.mem_of_getElem? h)
theorem lw_g {w : Cond} (h : w ∈ lw_tbl) (g : goodWord w = true) : w ∈ lw_all := List.mem_filter.mpr ⟨h, g⟩
theorem lw_ms : ∀ w ∈ k2_sels lw_privs, w ∈ lw_tbl := fun w h => show w ∈ k2_sels lw_privs ++ tables_1 from List.mem_append_left _ h
theorem lw_m1 : ∀ w ∈ tables_1_1, w ∈ lw_tbl := fun w h => show w ∈ k2_sels lw_privs ++ tables_1 from List.mem_append_right (k2_sels lw_privs) (show w ∈ tables_1 from List.mem_append_left _ h)
theorem lw_m2 : ∀ w ∈ tables_1_2, w ∈ lw_tbl := fun w h => show w ∈ k2_sels lw_privs ++ tables_1 from List.mem_append_right (k2_sels lw_privs) (show w ∈ tables_1 from List.mem_append_right _ (List.mem_append_left _ h))
theorem lw_m3 : ∀ w ∈ tables_1_3, w ∈ lw_tbl := fun w h => show w ∈ k2_sels lw_privs ++ tables_1 from List.mem_append_right (k2_sels lw_privs) (show w ∈ tables_1 from List.mem_append_right _ (List.mem_append_right _ (List.mem_append_left _ h)))
theorem lw_m4 : ∀ w ∈ tables_1_4, w ∈ lw_tbl := fun w h => show w ∈ k2_sels lw_privs ++ tables_1 from List.mem_append_right (k2_sels lw_privs) (show w ∈ tables_1 from List.mem_append_right _ (List.mem_append_right _ (List.mem_append_right _ (List.mem_append_left _ h))))
theorem lw_m5 : ∀ w ∈ tables_1_5, w ∈ lw_tbl := fun w h => show w ∈ k2_sels lw_privs ++ tables_1 from List.mem_append_right (k2_sels lw_privs) (show w ∈ tables_1 from List.mem_append_right _ (List.mem_append_right _ (List.mem_append_right _ (List.mem_append_right _ (List.mem_append_left _ h)))))
theorem lw_m6 : ∀ w ∈ tables_1_6, w ∈ lw_tbl := fun w h => show w ∈ k2_sels lw_privs ++ tables_1 from List.mem_append_right (k2_sels lw_privs) (show w ∈ tables_1 from List.mem_append_right _ (List.mem_append_right _ (List.mem_append_right _ (List.mem_append_right _ (List.mem_append_right _ (List.mem_append_left _ h))))))
theorem lw_m7 : ∀ w ∈ tables_1_7, w ∈ lw_tbl := fun w h => show w ∈ k2_sels lw_privs ++ tables_1 from List.mem_append_right (k2_sels lw_privs) (show w ∈ tables_1 from List.mem_append_right _ (List.mem_append_right _ (List.mem_append_right _ (List.mem_append_right _ (List.mem_append_right _ (List.mem_append_right _ (List.mem_append_left _ h)))))))
theorem lw_m8 : ∀ w ∈ tables_1_8, w ∈ lw_tbl := fun w h => show w ∈ k2_sels lw_privs ++ tables_1 from List.mem_append_right (k2_sels lw_privs) (show w ∈ tables_1 from List.mem_append_right _ (List.mem_append_right _ (List.mem_append_right _ (List.mem_append_right _ (List.mem_append_right _ (List.mem_append_right _ (List.mem_append_right _ (List.mem_append_left _ h))))))))
theorem lw_m9 : ∀ w ∈ tables_1_9, w ∈ lw_tbl := fun w h => show w ∈ k2_sels lw_privs ++ tables_1 from List.mem_append_right (k2_sels lw_privs) (show w ∈ tables_1 from List.mem_append_right _ (List.mem_append_right _ (List.mem_append_right _ (List.mem_append_right _ (List.mem_append_right _ (List.mem_append_right _ (List.mem_append_right _ (List.mem_append_right _ h))))))))
theorem qs0 : (Cond.selects "java/lang/Throwable" ⟨"java/lang/Throwable", "fillInStackTrace", "(I)Ljava/lang/Throwable;"⟩ ⟨"java/lang/Throwable", "fillInStackTrace", "(I)Ljava/lang/Throwable;"⟩) ∈ lw_all := lw_g (lw_at lw_ms 0 rfl) rfl
theorem qs1 : (Cond.selects "WrongRoom" ⟨"WrongRoom", "bytes", "(I)V"⟩ ⟨"WrongRoom", "bytes", "(I)V"⟩) ∈ lw_all := lw_g (lw_at lw_ms 1 rfl) rfl
theorem qs2 : (Cond.selects "WrongRoom" ⟨"WrongRoom", "anew", "()V"⟩ ⟨"WrongRoom", "anew", "()V"⟩) ∈ lw_all := lw_g (lw_at lw_ms 2 rfl) rfl
theorem qs3 : (Cond.selects "WrongRoom" ⟨"WrongRoom", "no", "(I)I"⟩ ⟨"WrongRoom", "no", "(I)I"⟩) ∈ lw_all := lw_g (lw_at lw_ms 3 rfl) rfl
theorem qs4 : (Cond.selects "WrongRoom$Reader" ⟨"WrongRoom$Reader", "next", "()V"⟩ ⟨"WrongRoom$Reader", "next", "()V"⟩) ∈ lw_all := lw_g (lw_at lw_ms 4 rfl) rfl
theorem qs5 : (Cond.selects "WrongRoom$Reader" ⟨"WrongRoom$Reader", "see", "(I)I"⟩ ⟨"WrongRoom$Reader", "see", "(I)I"⟩) ∈ lw_all := lw_g (lw_at lw_ms 5 rfl) rfl
theorem qs6 : (Cond.selects "WrongRoom$Reader" ⟨"WrongRoom$Reader", "line", "()V"⟩ ⟨"WrongRoom$Reader", "line", "()V"⟩) ∈ lw_all := lw_g (lw_at lw_ms 6 rfl) rfl
theorem qs7 : (Cond.selects "WrongRoom$Reader" ⟨"WrongRoom$Reader", "fail", "(I)LWrongRoom$Refused;"⟩ ⟨"WrongRoom$Reader", "fail", "(I)LWrongRoom$Refused;"⟩) ∈ lw_all := lw_g (lw_at lw_ms 7 rfl) rfl
theorem qs8 : (Cond.selects "WrongRoom$Reader" ⟨"WrongRoom$Reader", "townLine", "()V"⟩ ⟨"WrongRoom$Reader", "townLine", "()V"⟩) ∈ lw_all := lw_g (lw_at lw_ms 8 rfl) rfl
theorem qs9 : (Cond.selects "WrongRoom$Reader" ⟨"WrongRoom$Reader", "after", "(Ljava/lang/String;II)I"⟩ ⟨"WrongRoom$Reader", "after", "(Ljava/lang/String;II)I"⟩) ∈ lw_all := lw_g (lw_at lw_ms 9 rfl) rfl
theorem qs10 : (Cond.selects "WrongRoom$Reader" ⟨"WrongRoom$Reader", "must", "(Ljava/lang/String;)V"⟩ ⟨"WrongRoom$Reader", "must", "(Ljava/lang/String;)V"⟩) ∈ lw_all := lw_g (lw_at lw_ms 10 rfl) rfl
theorem qs11 : (Cond.selects "WrongRoom$Reader" ⟨"WrongRoom$Reader", "takes", "(Ljava/lang/String;)Z"⟩ ⟨"WrongRoom$Reader", "takes", "(Ljava/lang/String;)Z"⟩) ∈ lw_all := lw_g (lw_at lw_ms 11 rfl) rfl
theorem qs12 : (Cond.selects "WrongRoom$Reader" ⟨"WrongRoom$Reader", "number", "(II)I"⟩ ⟨"WrongRoom$Reader", "number", "(II)I"⟩) ∈ lw_all := lw_g (lw_at lw_ms 12 rfl) rfl
theorem qs13 : (Cond.selects "WrongRoom$Reader" ⟨"WrongRoom$Reader", "houseLine", "()V"⟩ ⟨"WrongRoom$Reader", "houseLine", "()V"⟩) ∈ lw_all := lw_g (lw_at lw_ms 13 rfl) rfl
theorem qs14 : (Cond.selects "WrongRoom$Reader" ⟨"WrongRoom$Reader", "begins", "(Z)V"⟩ ⟨"WrongRoom$Reader", "begins", "(Z)V"⟩) ∈ lw_all := lw_g (lw_at lw_ms 14 rfl) rfl
theorem qs15 : (Cond.selects "WrongRoom$Reader" ⟨"WrongRoom$Reader", "newName", "()Ljava/lang/String;"⟩ ⟨"WrongRoom$Reader", "newName", "()Ljava/lang/String;"⟩) ∈ lw_all := lw_g (lw_at lw_ms 15 rfl) rfl
theorem qs16 : (Cond.selects "WrongRoom$Reader" ⟨"WrongRoom$Reader", "mustName", "()V"⟩ ⟨"WrongRoom$Reader", "mustName", "()V"⟩) ∈ lw_all := lw_g (lw_at lw_ms 16 rfl) rfl
theorem qs17 : (Cond.selects "WrongRoom$Reader" ⟨"WrongRoom$Reader", "anyWord", "()Ljava/lang/String;"⟩ ⟨"WrongRoom$Reader", "anyWord", "()Ljava/lang/String;"⟩) ∈ lw_all := lw_g (lw_at lw_ms 17 rfl) rfl
theorem qs18 : (Cond.selects "WrongRoom$Reader" ⟨"WrongRoom$Reader", "wrongLine", "()V"⟩ ⟨"WrongRoom$Reader", "wrongLine", "()V"⟩) ∈ lw_all := lw_g (lw_at lw_ms 18 rfl) rfl
theorem qs19 : (Cond.selects "WrongRoom$Reader" ⟨"WrongRoom$Reader", "houseHere", "()LWrongRoom$House;"⟩ ⟨"WrongRoom$Reader", "houseHere", "()LWrongRoom$House;"⟩) ∈ lw_all := lw_g (lw_at lw_ms 19 rfl) rfl
theorem qs20 : (Cond.selects "WrongRoom$Reader" ⟨"WrongRoom$Reader", "openLine", "()V"⟩ ⟨"WrongRoom$Reader", "openLine", "()V"⟩) ∈ lw_all := lw_g (lw_at lw_ms 20 rfl) rfl
theorem qs21 : (Cond.selects "WrongRoom$Reader" ⟨"WrongRoom$Reader", "streetLine", "()V"⟩ ⟨"WrongRoom$Reader", "streetLine", "()V"⟩) ∈ lw_all := lw_g (lw_at lw_ms 21 rfl) rfl
theorem qs22 : (Cond.selects "WrongRoom$Reader" ⟨"WrongRoom$Reader", "house", "()LWrongRoom$House;"⟩ ⟨"WrongRoom$Reader", "house", "()LWrongRoom$House;"⟩) ∈ lw_all := lw_g (lw_at lw_ms 22 rfl) rfl
theorem qs23 : (Cond.selects "WrongRoom$Reader" ⟨"WrongRoom$Reader", "personLine", "()V"⟩ ⟨"WrongRoom$Reader", "personLine", "()V"⟩) ∈ lw_all := lw_g (lw_at lw_ms 23 rfl) rfl
theorem qs24 : (Cond.selects "WrongRoom$Reader" ⟨"WrongRoom$Reader", "signLine", "()V"⟩ ⟨"WrongRoom$Reader", "signLine", "()V"⟩) ∈ lw_all := lw_g (lw_at lw_ms 24 rfl) rfl
theorem qs25 : (Cond.selects "WrongRoom$Reader" ⟨"WrongRoom$Reader", "note", "(LWrongRoom$Notice;)V"⟩ ⟨"WrongRoom$Reader", "note", "(LWrongRoom$Notice;)V"⟩) ∈ lw_all := lw_g (lw_at lw_ms 25 rfl) rfl
theorem qs26 : (Cond.selects "WrongRoom$Reader" ⟨"WrongRoom$Reader", "noiseLine", "()V"⟩ ⟨"WrongRoom$Reader", "noiseLine", "()V"⟩) ∈ lw_all := lw_g (lw_at lw_ms 26 rfl) rfl
theorem qs27 : (Cond.selects "WrongRoom" ⟨"WrongRoom", "isHouse", "(I)Z"⟩ ⟨"WrongRoom", "isHouse", "(I)Z"⟩) ∈ lw_all := lw_g (lw_at lw_ms 27 rfl) rfl
theorem qs28 : (Cond.selects "WrongRoom" ⟨"WrongRoom", "minuteWhy", "(ZI)I"⟩ ⟨"WrongRoom", "minuteWhy", "(ZI)I"⟩) ∈ lw_all := lw_g (lw_at lw_ms 28 rfl) rfl
theorem qs29 : (Cond.selects "WrongRoom" ⟨"WrongRoom", "isPerson", "(I)Z"⟩ ⟨"WrongRoom", "isPerson", "(I)Z"⟩) ∈ lw_all := lw_g (lw_at lw_ms 29 rfl) rfl
theorem qs30 : (Cond.selects "WrongRoom" ⟨"WrongRoom", "behind", "(II)I"⟩ ⟨"WrongRoom", "behind", "(II)I"⟩) ∈ lw_all := lw_g (lw_at lw_ms 30 rfl) rfl
theorem qs31 : (Cond.selects "WrongRoom" ⟨"WrongRoom", "wayWhy", "(III)I"⟩ ⟨"WrongRoom", "wayWhy", "(III)I"⟩) ∈ lw_all := lw_g (lw_at lw_ms 31 rfl) rfl
theorem qs32 : (Cond.selects "WrongRoom" ⟨"WrongRoom", "minutesBy", "(LWrongRoom$Going;III)I"⟩ ⟨"WrongRoom", "minutesBy", "(LWrongRoom$Going;III)I"⟩) ∈ lw_all := lw_g (lw_at lw_ms 32 rfl) rfl
theorem qs33 : (Cond.selects "WrongRoom$Ways" ⟨"WrongRoom$Ways", "comes", "(IIII)V"⟩ ⟨"WrongRoom$Ways", "comes", "(IIII)V"⟩) ∈ lw_all := lw_g (lw_at lw_ms 33 rfl) rfl
theorem qs34 : (Cond.selects "WrongRoom$Rows" ⟨"WrongRoom$Rows", "tries", "(II)V"⟩ ⟨"WrongRoom$Rows", "tries", "(II)V"⟩) ∈ lw_all := lw_g (lw_at lw_ms 34 rfl) rfl
theorem qs35 : (Cond.selects "WrongRoom$Rows" ⟨"WrongRoom$Rows", "note", "()V"⟩ ⟨"WrongRoom$Rows", "note", "()V"⟩) ∈ lw_all := lw_g (lw_at lw_ms 35 rfl) rfl
theorem qs36 : (Cond.selects "WrongRoom" ⟨"WrongRoom", "askOf", "()I"⟩ ⟨"WrongRoom", "askOf", "()I"⟩) ∈ lw_all := lw_g (lw_at lw_ms 36 rfl) rfl
theorem qs37 : (Cond.selects "WrongRoom" ⟨"WrongRoom", "shares", "(I)I"⟩ ⟨"WrongRoom", "shares", "(I)I"⟩) ∈ lw_all := lw_g (lw_at lw_ms 37 rfl) rfl
theorem qs38 : (Cond.selects "WrongRoom$Exchanges" ⟨"WrongRoom$Exchanges", "tries", "(II)V"⟩ ⟨"WrongRoom$Exchanges", "tries", "(II)V"⟩) ∈ lw_all := lw_g (lw_at lw_ms 38 rfl) rfl
theorem qs39 : (Cond.selects "WrongRoom" ⟨"WrongRoom", "doStand", "(I)Z"⟩ ⟨"WrongRoom", "doStand", "(I)Z"⟩) ∈ lw_all := lw_g (lw_at lw_ms 39 rfl) rfl
theorem qs40 : (Cond.selects "WrongRoom" ⟨"WrongRoom", "gainOf", "(IIII)I"⟩ ⟨"WrongRoom", "gainOf", "(IIII)I"⟩) ∈ lw_all := lw_g (lw_at lw_ms 40 rfl) rfl
theorem qs41 : (Cond.selects "WrongRoom" ⟨"WrongRoom", "worth", "(II)I"⟩ ⟨"WrongRoom", "worth", "(II)I"⟩) ∈ lw_all := lw_g (lw_at lw_ms 41 rfl) rfl
theorem qs42 : (Cond.selects "WrongRoom" ⟨"WrongRoom", "seekRests", "(II)I"⟩ ⟨"WrongRoom", "seekRests", "(II)I"⟩) ∈ lw_all := lw_g (lw_at lw_ms 42 rfl) rfl
theorem qs43 : (Cond.selects "WrongRoom" ⟨"WrongRoom", "isRest", "(IIII)Z"⟩ ⟨"WrongRoom", "isRest", "(IIII)Z"⟩) ∈ lw_all := lw_g (lw_at lw_ms 43 rfl) rfl
theorem qs44 : (Cond.selects "WrongRoom" ⟨"WrongRoom", "buildWhy", "(ZII)I"⟩ ⟨"WrongRoom", "buildWhy", "(ZII)I"⟩) ∈ lw_all := lw_g (lw_at lw_ms 44 rfl) rfl
theorem qs45 : (Cond.selects "WrongRoom" ⟨"WrongRoom", "yes", "(I)Z"⟩ ⟨"WrongRoom", "yes", "(I)Z"⟩) ∈ lw_all := lw_g (lw_at lw_ms 45 rfl) rfl
theorem qs46 : (Cond.selects "WrongRoom" ⟨"WrongRoom", "keep", "()V"⟩ ⟨"WrongRoom", "keep", "()V"⟩) ∈ lw_all := lw_g (lw_at lw_ms 46 rfl) rfl
theorem qs47 : (Cond.selects "WrongRoom" ⟨"WrongRoom", "done", "()Z"⟩ ⟨"WrongRoom", "done", "()Z"⟩) ∈ lw_all := lw_g (lw_at lw_ms 47 rfl) rfl
theorem qs48 : (Cond.selects "WrongRoom" ⟨"WrongRoom", "known", "()I"⟩ ⟨"WrongRoom", "known", "()I"⟩) ∈ lw_all := lw_g (lw_at lw_ms 48 rfl) rfl
theorem qs49 : (Cond.selects "WrongRoomModel" ⟨"WrongRoomModel", "refused", "(I)I"⟩ ⟨"WrongRoomModel", "refused", "(I)I"⟩) ∈ lw_all := lw_g (lw_at lw_ms 49 rfl) rfl
theorem qs50 : (Cond.selects "WrongRoomModel" ⟨"WrongRoomModel", "goesOn", "()V"⟩ ⟨"WrongRoomModel", "goesOn", "()V"⟩) ∈ lw_all := lw_g (lw_at lw_ms 50 rfl) rfl
theorem qs51 : (Cond.selects "WrongRoomModel" ⟨"WrongRoomModel", "byteAt", "(I)I"⟩ ⟨"WrongRoomModel", "byteAt", "(I)I"⟩) ∈ lw_all := lw_g (lw_at lw_ms 51 rfl) rfl
theorem qs52 : (Cond.selects "WrongRoomModel" ⟨"WrongRoomModel", "readAll", "()V"⟩ ⟨"WrongRoomModel", "readAll", "()V"⟩) ∈ lw_all := lw_g (lw_at lw_ms 52 rfl) rfl
theorem qs53 : (Cond.selects "WrongRoomModel" ⟨"WrongRoomModel", "readLine", "()V"⟩ ⟨"WrongRoomModel", "readLine", "()V"⟩) ∈ lw_all := lw_g (lw_at lw_ms 53 rfl) rfl
theorem qs54 : (Cond.selects "WrongRoomModel" ⟨"WrongRoomModel", "isWord", "(Ljava/lang/String;)Z"⟩ ⟨"WrongRoomModel", "isWord", "(Ljava/lang/String;)Z"⟩) ∈ lw_all := lw_g (lw_at lw_ms 54 rfl) rfl
theorem qs55 : (Cond.selects "WrongRoomModel" ⟨"WrongRoomModel", "readTown", "()V"⟩ ⟨"WrongRoomModel", "readTown", "()V"⟩) ∈ lw_all := lw_g (lw_at lw_ms 55 rfl) rfl
theorem qs56 : (Cond.selects "WrongRoomModel" ⟨"WrongRoomModel", "flaw", "(I)V"⟩ ⟨"WrongRoomModel", "flaw", "(I)V"⟩) ∈ lw_all := lw_g (lw_at lw_ms 56 rfl) rfl
theorem qs57 : (Cond.selects "WrongRoomModel" ⟨"WrongRoomModel", "readPart", "(Ljava/lang/String;II)I"⟩ ⟨"WrongRoomModel", "readPart", "(Ljava/lang/String;II)I"⟩) ∈ lw_all := lw_g (lw_at lw_ms 57 rfl) rfl
theorem qs58 : (Cond.selects "WrongRoomModel" ⟨"WrongRoomModel", "needs", "(Ljava/lang/String;)V"⟩ ⟨"WrongRoomModel", "needs", "(Ljava/lang/String;)V"⟩) ∈ lw_all := lw_g (lw_at lw_ms 58 rfl) rfl
theorem qs59 : (Cond.selects "WrongRoomModel" ⟨"WrongRoomModel", "readWhole", "(II)I"⟩ ⟨"WrongRoomModel", "readWhole", "(II)I"⟩) ∈ lw_all := lw_g (lw_at lw_ms 59 rfl) rfl
theorem qs60 : (Cond.selects "WrongRoomModel" ⟨"WrongRoomModel", "readHouseLine", "()V"⟩ ⟨"WrongRoomModel", "readHouseLine", "()V"⟩) ∈ lw_all := lw_g (lw_at lw_ms 60 rfl) rfl
theorem qs61 : (Cond.selects "WrongRoomModel" ⟨"WrongRoomModel", "lineBegins", "(II)V"⟩ ⟨"WrongRoomModel", "lineBegins", "(II)V"⟩) ∈ lw_all := lw_g (lw_at lw_ms 61 rfl) rfl
theorem qs62 : (Cond.selects "WrongRoomModel" ⟨"WrongRoomModel", "readFresh", "()J"⟩ ⟨"WrongRoomModel", "readFresh", "()J"⟩) ∈ lw_all := lw_g (lw_at lw_ms 62 rfl) rfl
theorem qs63 : (Cond.selects "WrongRoomModel" ⟨"WrongRoomModel", "isName", "()Z"⟩ ⟨"WrongRoomModel", "isName", "()Z"⟩) ∈ lw_all := lw_g (lw_at lw_ms 63 rfl) rfl
theorem qs64 : (Cond.selects "WrongRoomModel" ⟨"WrongRoomModel", "readWord", "()J"⟩ ⟨"WrongRoomModel", "readWord", "()J"⟩) ∈ lw_all := lw_g (lw_at lw_ms 64 rfl) rfl
theorem qs65 : (Cond.selects "WrongRoomModel" ⟨"WrongRoomModel", "names", "(JII)V"⟩ ⟨"WrongRoomModel", "names", "(JII)V"⟩) ∈ lw_all := lw_g (lw_at lw_ms 65 rfl) rfl
theorem qs66 : (Cond.selects "WrongRoomModel" ⟨"WrongRoomModel", "readWrong", "()V"⟩ ⟨"WrongRoomModel", "readWrong", "()V"⟩) ∈ lw_all := lw_g (lw_at lw_ms 66 rfl) rfl
theorem qs67 : (Cond.selects "WrongRoomModel" ⟨"WrongRoomModel", "knownHouse", "()I"⟩ ⟨"WrongRoomModel", "knownHouse", "()I"⟩) ∈ lw_all := lw_g (lw_at lw_ms 67 rfl) rfl
theorem qs68 : (Cond.selects "WrongRoomModel" ⟨"WrongRoomModel", "readOpen", "()V"⟩ ⟨"WrongRoomModel", "readOpen", "()V"⟩) ∈ lw_all := lw_g (lw_at lw_ms 68 rfl) rfl
theorem qs69 : (Cond.selects "WrongRoomModel" ⟨"WrongRoomModel", "readStreet", "()V"⟩ ⟨"WrongRoomModel", "readStreet", "()V"⟩) ∈ lw_all := lw_g (lw_at lw_ms 69 rfl) rfl
theorem qs70 : (Cond.selects "WrongRoomModel" ⟨"WrongRoomModel", "readHouse", "()I"⟩ ⟨"WrongRoomModel", "readHouse", "()I"⟩) ∈ lw_all := lw_g (lw_at lw_ms 70 rfl) rfl
theorem qs71 : (Cond.selects "WrongRoomModel" ⟨"WrongRoomModel", "readPerson", "()V"⟩ ⟨"WrongRoomModel", "readPerson", "()V"⟩) ∈ lw_all := lw_g (lw_at lw_ms 71 rfl) rfl
theorem qs72 : (Cond.selects "WrongRoomModel" ⟨"WrongRoomModel", "readPartHouse", "(Ljava/lang/String;)I"⟩ ⟨"WrongRoomModel", "readPartHouse", "(Ljava/lang/String;)I"⟩) ∈ lw_all := lw_g (lw_at lw_ms 72 rfl) rfl
theorem qs73 : (Cond.selects "WrongRoomModel" ⟨"WrongRoomModel", "readSign", "()V"⟩ ⟨"WrongRoomModel", "readSign", "()V"⟩) ∈ lw_all := lw_g (lw_at lw_ms 73 rfl) rfl
theorem qs74 : (Cond.selects "WrongRoomModel" ⟨"WrongRoomModel", "readNoise", "()V"⟩ ⟨"WrongRoomModel", "readNoise", "()V"⟩) ∈ lw_all := lw_g (lw_at lw_ms 74 rfl) rfl
theorem qs75 : (Cond.selects "WrongRoomModel" ⟨"WrongRoomModel", "eatsSemicolon", "()Z"⟩ ⟨"WrongRoomModel", "eatsSemicolon", "()Z"⟩) ∈ lw_all := lw_g (lw_at lw_ms 75 rfl) rfl
theorem qs76 : (Cond.selects "WrongRoomModel" ⟨"WrongRoomModel", "laysStreets", "()V"⟩ ⟨"WrongRoomModel", "laysStreets", "()V"⟩) ∈ lw_all := lw_g (lw_at lw_ms 76 rfl) rfl
theorem qs77 : (Cond.selects "WrongRoomModel" ⟨"WrongRoomModel", "good", "(I)I"⟩ ⟨"WrongRoomModel", "good", "(I)I"⟩) ∈ lw_all := lw_g (lw_at lw_ms 77 rfl) rfl
theorem qs78 : (Cond.selects "WrongRoomModel" ⟨"WrongRoomModel", "isHouse", "(I)Z"⟩ ⟨"WrongRoomModel", "isHouse", "(I)Z"⟩) ∈ lw_all := lw_g (lw_at lw_ms 78 rfl) rfl
theorem qs79 : (Cond.selects "WrongRoomModel" ⟨"WrongRoomModel", "whose", "(I)I"⟩ ⟨"WrongRoomModel", "whose", "(I)I"⟩) ∈ lw_all := lw_g (lw_at lw_ms 79 rfl) rfl
theorem qs80 : (Cond.selects "WrongRoomModel" ⟨"WrongRoomModel", "isOpenAt", "(II)Z"⟩ ⟨"WrongRoomModel", "isOpenAt", "(II)Z"⟩) ∈ lw_all := lw_g (lw_at lw_ms 80 rfl) rfl
theorem qs81 : (Cond.selects "WrongRoomModel" ⟨"WrongRoomModel", "isPerson", "(I)Z"⟩ ⟨"WrongRoomModel", "isPerson", "(I)Z"⟩) ∈ lw_all := lw_g (lw_at lw_ms 81 rfl) rfl
theorem qs82 : (Cond.selects "WrongRoomModel" ⟨"WrongRoomModel", "tries", "()V"⟩ ⟨"WrongRoomModel", "tries", "()V"⟩) ∈ lw_all := lw_g (lw_at lw_ms 82 rfl) rfl
theorem qs83 : (Cond.selects "WrongRoomModel" ⟨"WrongRoomModel", "refusesWay", "(ZI)I"⟩ ⟨"WrongRoomModel", "refusesWay", "(ZI)I"⟩) ∈ lw_all := lw_g (lw_at lw_ms 83 rfl) rfl
theorem qs84 : (Cond.selects "WrongRoomModel" ⟨"WrongRoomModel", "soonest", "(IIIZ)I"⟩ ⟨"WrongRoomModel", "soonest", "(IIIZ)I"⟩) ∈ lw_all := lw_g (lw_at lw_ms 84 rfl) rfl
theorem qs85 : (Cond.selects "WrongRoomModel" ⟨"WrongRoomModel", "ways", "(IIIZ)V"⟩ ⟨"WrongRoomModel", "ways", "(IIIZ)V"⟩) ∈ lw_all := lw_g (lw_at lw_ms 85 rfl) rfl
theorem qs86 : (Cond.selects "WrongRoomModel" ⟨"WrongRoomModel", "ends", "(I)V"⟩ ⟨"WrongRoomModel", "ends", "(I)V"⟩) ∈ lw_all := lw_g (lw_at lw_ms 86 rfl) rfl
theorem qs87 : (Cond.selects "WrongRoomModel" ⟨"WrongRoomModel", "canStep", "(IZ)Z"⟩ ⟨"WrongRoomModel", "canStep", "(IZ)Z"⟩) ∈ lw_all := lw_g (lw_at lw_ms 87 rfl) rfl
theorem qs88 : (Cond.selects "WrongRoomModel" ⟨"WrongRoomModel", "steps", "(IIIZ)I"⟩ ⟨"WrongRoomModel", "steps", "(IIIZ)I"⟩) ∈ lw_all := lw_g (lw_at lw_ms 88 rfl) rfl
theorem qs89 : (Cond.selects "WrongRoomModel" ⟨"WrongRoomModel", "fitting", "()V"⟩ ⟨"WrongRoomModel", "fitting", "()V"⟩) ∈ lw_all := lw_g (lw_at lw_ms 89 rfl) rfl
theorem qs90 : (Cond.selects "WrongRoomModel" ⟨"WrongRoomModel", "countsRow", "()V"⟩ ⟨"WrongRoomModel", "countsRow", "()V"⟩) ∈ lw_all := lw_g (lw_at lw_ms 90 rfl) rfl
theorem qs91 : (Cond.selects "WrongRoomModel" ⟨"WrongRoomModel", "isFitting", "(I)Z"⟩ ⟨"WrongRoomModel", "isFitting", "(I)Z"⟩) ∈ lw_all := lw_g (lw_at lw_ms 91 rfl) rfl
theorem qs92 : (Cond.selects "WrongRoomModel" ⟨"WrongRoomModel", "asks", "()I"⟩ ⟨"WrongRoomModel", "asks", "()I"⟩) ∈ lw_all := lw_g (lw_at lw_ms 92 rfl) rfl
theorem qs93 : (Cond.selects "WrongRoomModel" ⟨"WrongRoomModel", "owedBy", "(I)I"⟩ ⟨"WrongRoomModel", "owedBy", "(I)I"⟩) ∈ lw_all := lw_g (lw_at lw_ms 93 rfl) rfl
theorem qs94 : (Cond.selects "WrongRoomModel" ⟨"WrongRoomModel", "partsBy", "(I)I"⟩ ⟨"WrongRoomModel", "partsBy", "(I)I"⟩) ∈ lw_all := lw_g (lw_at lw_ms 94 rfl) rfl
theorem qs95 : (Cond.selects "WrongRoomModel" ⟨"WrongRoomModel", "fraction", "(JJZ)J"⟩ ⟨"WrongRoomModel", "fraction", "(JJZ)J"⟩) ∈ lw_all := lw_g (lw_at lw_ms 95 rfl) rfl
theorem qs96 : (Cond.selects "WrongRoomModel" ⟨"WrongRoomModel", "seeks", "()V"⟩ ⟨"WrongRoomModel", "seeks", "()V"⟩) ∈ lw_all := lw_g (lw_at lw_ms 96 rfl) rfl
theorem qs97 : (Cond.selects "WrongRoomModel" ⟨"WrongRoomModel", "seeksOf", "(I)V"⟩ ⟨"WrongRoomModel", "seeksOf", "(I)V"⟩) ∈ lw_all := lw_g (lw_at lw_ms 97 rfl) rfl
theorem qs98 : (Cond.selects "WrongRoomModel" ⟨"WrongRoomModel", "areDone", "(I)Z"⟩ ⟨"WrongRoomModel", "areDone", "(I)Z"⟩) ∈ lw_all := lw_g (lw_at lw_ms 98 rfl) rfl
theorem qs99 : (Cond.selects "WrongRoomModel" ⟨"WrongRoomModel", "nextPairs", "(I)Z"⟩ ⟨"WrongRoomModel", "nextPairs", "(I)Z"⟩) ∈ lw_all := lw_g (lw_at lw_ms 99 rfl) rfl
theorem qs100 : (Cond.selects "WrongRoomModel" ⟨"WrongRoomModel", "isStand", "(II)Z"⟩ ⟨"WrongRoomModel", "isStand", "(II)Z"⟩) ∈ lw_all := lw_g (lw_at lw_ms 100 rfl) rfl
theorem qs101 : (Cond.selects "WrongRoomModel" ⟨"WrongRoomModel", "tenants", "(IIII)I"⟩ ⟨"WrongRoomModel", "tenants", "(IIII)I"⟩) ∈ lw_all := lw_g (lw_at lw_ms 101 rfl) rfl
theorem qs102 : (Cond.selects "WrongRoomModel" ⟨"WrongRoomModel", "worthOf", "(II)I"⟩ ⟨"WrongRoomModel", "worthOf", "(II)I"⟩) ∈ lw_all := lw_g (lw_at lw_ms 102 rfl) rfl
theorem qs103 : (Cond.selects "WrongRoomModel" ⟨"WrongRoomModel", "isRest", "(IIII)Z"⟩ ⟨"WrongRoomModel", "isRest", "(IIII)Z"⟩) ∈ lw_all := lw_g (lw_at lw_ms 103 rfl) rfl
theorem qs104 : (Cond.selects "WrongRoomModel" ⟨"WrongRoomModel", "builds", "(ZII)I"⟩ ⟨"WrongRoomModel", "builds", "(ZII)I"⟩) ∈ lw_all := lw_g (lw_at lw_ms 104 rfl) rfl
theorem qs105 : (Cond.selects "WrongRoomModel" ⟨"WrongRoomModel", "drawn", "()I"⟩ ⟨"WrongRoomModel", "drawn", "()I"⟩) ∈ lw_all := lw_g (lw_at lw_ms 105 rfl) rfl
theorem qs106 : (Cond.selects "WrongRoomModel" ⟨"WrongRoomModel", "denied", "(I)Z"⟩ ⟨"WrongRoomModel", "denied", "(I)Z"⟩) ∈ lw_all := lw_g (lw_at lw_ms 106 rfl) rfl
theorem qs107 : (Cond.selects "WrongRoomModel" ⟨"WrongRoomModel", "remembers", "()V"⟩ ⟨"WrongRoomModel", "remembers", "()V"⟩) ∈ lw_all := lw_g (lw_at lw_ms 107 rfl) rfl
theorem qs108 : (Cond.selects "WrongRoomModel" ⟨"WrongRoomModel", "granted", "()Z"⟩ ⟨"WrongRoomModel", "granted", "()Z"⟩) ∈ lw_all := lw_g (lw_at lw_ms 108 rfl) rfl
theorem qs109 : (Cond.selects "WrongRoomModel" ⟨"WrongRoomModel", "known", "()I"⟩ ⟨"WrongRoomModel", "known", "()I"⟩) ∈ lw_all := lw_g (lw_at lw_ms 109 rfl) rfl
/-! WrongRoomLaw -/
set_option maxRecDepth 100000
def RX0 : String := "WrongRoomLaw"
abbrev cX0_led : ByteArray := method_3_code
def yX0_led : MethodName := ⟨RX0, "led", "(LWrongRoom;I[J)I"⟩
def dkwX0_led_0 : List UInt8 := [44, 3, 42, 27, 182, 0, 7, 133, 80, 167, 0, 6, 78, 4, 172, 3, 172]
abbrev dktX0_led_0 : List UInt8 := dkwX0_led_0 ++ []
theorem dksX0_led_0 : cX0_led.data.toList.drop 0 = dktX0_led_0 := by decide +kernel
theorem dX0_led_0 : decode cX0_led 0 = .ok (.aload_n 2, 1) := dk_44 (dk_at dksX0_led_0 0 rfl rfl)
theorem dX0_led_1 : decode cX0_led 1 = .ok (.iconst 0, 1) := dk_3 (dk_at dksX0_led_0 1 rfl rfl)
theorem dX0_led_2 : decode cX0_led 2 = .ok (.aload_n 0, 1) := dk_42 (dk_at dksX0_led_0 2 rfl rfl)
theorem dX0_led_3 : decode cX0_led 3 = .ok (.iload_n 1, 1) := dk_27 (dk_at dksX0_led_0 3 rfl rfl)
theorem dX0_led_4 : decode cX0_led 4 = .ok (.invokevirtual 7, 3) := dk_182 0 7 (dk_at dksX0_led_0 4 rfl rfl)
theorem dX0_led_7 : decode cX0_led 7 = .ok (.i2l, 1) := dk_133 (dk_at dksX0_led_0 7 rfl rfl)
theorem dX0_led_8 : decode cX0_led 8 = .ok (.lastore, 1) := dk_80 (dk_at dksX0_led_0 8 rfl rfl)
theorem dX0_led_9 : decode cX0_led 9 = .ok (.goto 6, 3) := dk_167 0 6 (dk_at dksX0_led_0 9 rfl rfl)
theorem dX0_led_12 : decode cX0_led 12 = .ok (.astore_n 3, 1) := dk_78 (dk_at dksX0_led_0 12 rfl rfl)
theorem dX0_led_13 : decode cX0_led 13 = .ok (.iconst 1, 1) := dk_4 (dk_at dksX0_led_0 13 rfl rfl)
theorem dX0_led_14 : decode cX0_led 14 = .ok (.ireturn, 1) := dk_172 (dk_at dksX0_led_0 14 rfl rfl)
theorem dX0_led_15 : decode cX0_led 15 = .ok (.iconst 0, 1) := dk_3 (dk_at dksX0_led_0 15 rfl rfl)
theorem dX0_led_16 : decode cX0_led 16 = .ok (.ireturn, 1) := dk_172 (dk_at dksX0_led_0 16 rfl rfl)
theorem q110 : (Jvm.Cond.initialized "WrongRoomLaw") ∈ lw_all := lw_g (lw_at lw_m1 0 rfl) rfl
theorem q141 : (Jvm.Cond.classLink "WrongRoomLaw" (8 : Nat) "WrongRoom") ∈ lw_all := lw_g (lw_at lw_m1 31 rfl) rfl
theorem q143 : (Jvm.Cond.methodLink "WrongRoomLaw" (15 : Nat) ({ cls := "WrongRoom", name := "<init>", desc := "()V" } : Jvm.MethodName)) ∈ lw_all := lw_g (lw_at lw_m1 33 rfl) rfl
theorem q464 : (Jvm.Cond.methodLink "WrongRoomLaw" (19 : Nat) ({ cls := "WrongRoom", name := "feed", desc := "(IIIII)I" } : Jvm.MethodName)) ∈ lw_all := lw_g (lw_at lw_m2 114 rfl) rfl
theorem q472 : (Jvm.Cond.methodLink "WrongRoomLaw" (24 : Nat) ({ cls := "WrongRoom", name := "town", desc := "(I)I" } : Jvm.MethodName)) ∈ lw_all := lw_g (lw_at lw_m2 122 rfl) rfl
theorem q953 : (Jvm.Cond.methodLink "WrongRoomLaw" (28 : Nat) ({ cls := "WrongRoom", name := "fault", desc := "()I" } : Jvm.MethodName)) ∈ lw_all := lw_g (lw_at lw_m4 123 rfl) rfl
theorem q957 : (Jvm.Cond.methodLink "WrongRoomLaw" (33 : Nat) ({ cls := "WrongRoom", name := "where", desc := "()I" } : Jvm.MethodName)) ∈ lw_all := lw_g (lw_at lw_m4 127 rfl) rfl
theorem q961 : (Jvm.Cond.methodLink "WrongRoomLaw" (37 : Nat) ({ cls := "WrongRoom", name := "house", desc := "(II)I" } : Jvm.MethodName)) ∈ lw_all := lw_g (lw_at lw_m4 131 rfl) rfl
theorem q976 : (Jvm.Cond.methodLink "WrongRoomLaw" (42 : Nat) ({ cls := "WrongRoom", name := "open", desc := "(II)I" } : Jvm.MethodName)) ∈ lw_all := lw_g (lw_at lw_m4 146 rfl) rfl
theorem q994 : (Jvm.Cond.methodLink "WrongRoomLaw" (46 : Nat) ({ cls := "WrongRoom", name := "street", desc := "(II)I" } : Jvm.MethodName)) ∈ lw_all := lw_g (lw_at lw_m4 164 rfl) rfl
theorem q999 : (Jvm.Cond.methodLink "WrongRoomLaw" (50 : Nat) ({ cls := "WrongRoom", name := "person", desc := "(II)I" } : Jvm.MethodName)) ∈ lw_all := lw_g (lw_at lw_m4 169 rfl) rfl
theorem q1007 : (Jvm.Cond.methodLink "WrongRoomLaw" (54 : Nat) ({ cls := "WrongRoom", name := "candle", desc := "(I)I" } : Jvm.MethodName)) ∈ lw_all := lw_g (lw_at lw_m4 177 rfl) rfl
theorem q1015 : (Jvm.Cond.methodLink "WrongRoomLaw" (58 : Nat) ({ cls := "WrongRoom", name := "candleAt", desc := "(II)I" } : Jvm.MethodName)) ∈ lw_all := lw_g (lw_at lw_m4 185 rfl) rfl
theorem q1019 : (Jvm.Cond.methodLink "WrongRoomLaw" (62 : Nat) ({ cls := "WrongRoom", name := "mutual", desc := "()I" } : Jvm.MethodName)) ∈ lw_all := lw_g (lw_at lw_m4 189 rfl) rfl
theorem q1031 : (Jvm.Cond.methodLink "WrongRoomLaw" (66 : Nat) ({ cls := "WrongRoom", name := "judge", desc := "()I" } : Jvm.MethodName)) ∈ lw_all := lw_g (lw_at lw_m4 201 rfl) rfl
theorem q1047 : (Jvm.Cond.methodLink "WrongRoomLaw" (70 : Nat) ({ cls := "WrongRoom", name := "way", desc := "(III)I" } : Jvm.MethodName)) ∈ lw_all := lw_g (lw_at lw_m4 217 rfl) rfl
theorem q1093 : (Jvm.Cond.methodLink "WrongRoomLaw" (75 : Nat) ({ cls := "WrongRoom", name := "wayAt", desc := "(IIII)I" } : Jvm.MethodName)) ∈ lw_all := lw_g (lw_at lw_m5 23 rfl) rfl
theorem q1105 : (Jvm.Cond.methodLink "WrongRoomLaw" (80 : Nat) ({ cls := "WrongRoom", name := "saves", desc := "(III)I" } : Jvm.MethodName)) ∈ lw_all := lw_g (lw_at lw_m5 35 rfl) rfl
theorem q1109 : (Jvm.Cond.methodLink "WrongRoomLaw" (84 : Nat) ({ cls := "WrongRoom", name := "farthest", desc := "(II)I" } : Jvm.MethodName)) ∈ lw_all := lw_g (lw_at lw_m5 39 rfl) rfl
theorem q1113 : (Jvm.Cond.methodLink "WrongRoomLaw" (88 : Nat) ({ cls := "WrongRoom", name := "homeIn", desc := "(I)I" } : Jvm.MethodName)) ∈ lw_all := lw_g (lw_at lw_m5 43 rfl) rfl
theorem q1117 : (Jvm.Cond.methodLink "WrongRoomLaw" (92 : Nat) ({ cls := "WrongRoom", name := "fits", desc := "()I" } : Jvm.MethodName)) ∈ lw_all := lw_g (lw_at lw_m5 47 rfl) rfl
theorem q1141 : (Jvm.Cond.methodLink "WrongRoomLaw" (96 : Nat) ({ cls := "WrongRoom", name := "could", desc := "(I)I" } : Jvm.MethodName)) ∈ lw_all := lw_g (lw_at lw_m5 71 rfl) rfl
theorem q1149 : (Jvm.Cond.methodLink "WrongRoomLaw" (100 : Nat) ({ cls := "WrongRoom", name := "surely", desc := "(I)I" } : Jvm.MethodName)) ∈ lw_all := lw_g (lw_at lw_m5 79 rfl) rfl
theorem q1157 : (Jvm.Cond.methodLink "WrongRoomLaw" (104 : Nat) ({ cls := "WrongRoom", name := "firstOf", desc := "(I)I" } : Jvm.MethodName)) ∈ lw_all := lw_g (lw_at lw_m5 87 rfl) rfl
theorem q1165 : (Jvm.Cond.methodLink "WrongRoomLaw" (108 : Nat) ({ cls := "WrongRoom", name := "ask", desc := "()I" } : Jvm.MethodName)) ∈ lw_all := lw_g (lw_at lw_m5 95 rfl) rfl
theorem q1180 : (Jvm.Cond.methodLink "WrongRoomLaw" (112 : Nat) ({ cls := "WrongRoom", name := "askLeaves", desc := "()I" } : Jvm.MethodName)) ∈ lw_all := lw_g (lw_at lw_m5 110 rfl) rfl
theorem q1184 : (Jvm.Cond.methodLink "WrongRoomLaw" (116 : Nat) ({ cls := "WrongRoom", name := "owes", desc := "(IZ)J" } : Jvm.MethodName)) ∈ lw_all := lw_g (lw_at lw_m5 114 rfl) rfl
theorem q1201 : (Jvm.Cond.methodLink "WrongRoomLaw" (121 : Nat) ({ cls := "WrongRoom", name := "net", desc := "(IZ)J" } : Jvm.MethodName)) ∈ lw_all := lw_g (lw_at lw_m5 131 rfl) rfl
theorem q1206 : (Jvm.Cond.methodLink "WrongRoomLaw" (125 : Nat) ({ cls := "WrongRoom", name := "debtor", desc := "()I" } : Jvm.MethodName)) ∈ lw_all := lw_g (lw_at lw_m5 136 rfl) rfl
theorem q1210 : (Jvm.Cond.methodLink "WrongRoomLaw" (129 : Nat) ({ cls := "WrongRoom", name := "paired", desc := "()I" } : Jvm.MethodName)) ∈ lw_all := lw_g (lw_at lw_m5 140 rfl) rfl
theorem q1240 : (Jvm.Cond.methodLink "WrongRoomLaw" (133 : Nat) ({ cls := "WrongRoom", name := "fewest", desc := "()I" } : Jvm.MethodName)) ∈ lw_all := lw_g (lw_at lw_m5 170 rfl) rfl
theorem q1244 : (Jvm.Cond.methodLink "WrongRoomLaw" (137 : Nat) ({ cls := "WrongRoom", name := "exchangeAt", desc := "(I)I" } : Jvm.MethodName)) ∈ lw_all := lw_g (lw_at lw_m5 174 rfl) rfl
theorem q1252 : (Jvm.Cond.methodLink "WrongRoomLaw" (141 : Nat) ({ cls := "WrongRoom", name := "stands", desc := "(I)I" } : Jvm.MethodName)) ∈ lw_all := lw_g (lw_at lw_m5 182 rfl) rfl
theorem q1261 : (Jvm.Cond.methodLink "WrongRoomLaw" (145 : Nat) ({ cls := "WrongRoom", name := "gain", desc := "(IIIIZ)I" } : Jvm.MethodName)) ∈ lw_all := lw_g (lw_at lw_m5 191 rfl) rfl
theorem q1276 : (Jvm.Cond.methodLink "WrongRoomLaw" (150 : Nat) ({ cls := "WrongRoom", name := "rests", desc := "(II)I" } : Jvm.MethodName)) ∈ lw_all := lw_g (lw_at lw_m5 206 rfl) rfl
theorem q1288 : (Jvm.Cond.methodLink "WrongRoomLaw" (154 : Nat) ({ cls := "WrongRoom", name := "rest", desc := "(II)I" } : Jvm.MethodName)) ∈ lw_all := lw_g (lw_at lw_m5 218 rfl) rfl
theorem q1292 : (Jvm.Cond.methodLink "WrongRoomLaw" (158 : Nat) ({ cls := "WrongRoom", name := "builders", desc := "(II)I" } : Jvm.MethodName)) ∈ lw_all := lw_g (lw_at lw_m5 222 rfl) rfl
theorem q1305 : (Jvm.Cond.methodLink "WrongRoomLaw" (162 : Nat) ({ cls := "WrongRoom", name := "builtOf", desc := "(III)I" } : Jvm.MethodName)) ∈ lw_all := lw_g (lw_at lw_m5 235 rfl) rfl
theorem q1309 : (Jvm.Cond.methodLink "WrongRoomLaw" (166 : Nat) ({ cls := "WrongRoom", name := "exchange", desc := "(II)Z" } : Jvm.MethodName)) ∈ lw_all := lw_g (lw_at lw_m5 239 rfl) rfl
theorem q1325 : (Jvm.Cond.methodLink "WrongRoomLaw" (171 : Nat) ({ cls := "WrongRoom", name := "shut", desc := "(IZ)Z" } : Jvm.MethodName)) ∈ lw_all := lw_g (lw_at lw_m6 15 rfl) rfl
theorem q1329 : (Jvm.Cond.methodLink "WrongRoomLaw" (176 : Nat) ({ cls := "WrongRoom", name := "go", desc := "(II)I" } : Jvm.MethodName)) ∈ lw_all := lw_g (lw_at lw_m6 19 rfl) rfl
theorem q1340 : (Jvm.Cond.methodLink "WrongRoomLaw" (180 : Nat) ({ cls := "WrongRoom", name := "waits", desc := "(II)I" } : Jvm.MethodName)) ∈ lw_all := lw_g (lw_at lw_m6 30 rfl) rfl
theorem q1344 : (Jvm.Cond.methodLink "WrongRoomLaw" (184 : Nat) ({ cls := "WrongRoom", name := "undo", desc := "()Z" } : Jvm.MethodName)) ∈ lw_all := lw_g (lw_at lw_m6 34 rfl) rfl
theorem q1348 : (Jvm.Cond.methodLink "WrongRoomLaw" (189 : Nat) ({ cls := "WrongRoom", name := "mark", desc := "()I" } : Jvm.MethodName)) ∈ lw_all := lw_g (lw_at lw_m6 38 rfl) rfl
theorem q1352 : (Jvm.Cond.methodLink "WrongRoomLaw" (193 : Nat) ({ cls := "WrongRoom", name := "back", desc := "(I)Z" } : Jvm.MethodName)) ∈ lw_all := lw_g (lw_at lw_m6 42 rfl) rfl
theorem q1356 : (Jvm.Cond.methodLink "WrongRoomLaw" (207 : Nat) ({ cls := "WrongRoom", name := "size", desc := "(I)I" } : Jvm.MethodName)) ∈ lw_all := lw_g (lw_at lw_m6 46 rfl) rfl
theorem q1364 : (Jvm.Cond.methodLink "WrongRoomLaw" (211 : Nat) ({ cls := "WrongRoom", name := "trouble", desc := "()I" } : Jvm.MethodName)) ∈ lw_all := lw_g (lw_at lw_m6 54 rfl) rfl
theorem q1368 : (Jvm.Cond.methodLink "WrongRoomLaw" (198 : Nat) ({ cls := "WrongRoomLaw", name := "led", desc := "(LWrongRoom;I[J)I" } : Jvm.MethodName)) ∈ lw_all := lw_g (lw_at lw_m6 58 rfl) rfl
theorem q1369 : (Jvm.Cond.static ({ cls := "WrongRoomLaw", name := "led", desc := "(LWrongRoom;I[J)I" } : Jvm.MethodName)) ∈ lw_all := lw_g (lw_at lw_m6 59 rfl) rfl
theorem q1370 : (Jvm.Cond.codeWith ({ cls := "WrongRoomLaw", name := "led", desc := "(LWrongRoom;I[J)I" } : Jvm.MethodName) method_3_code (4 : Nat) (Option.some Jvm.ClassFile.FieldType.int) [((0 : Nat), (9 : Nat), (12 : Nat), (13 : Nat))]) ∈ lw_all := lw_g (lw_at lw_m6 60 rfl) rfl
theorem q1371 : (Jvm.Cond.classLink "WrongRoomLaw" (13 : Nat) "java/util/NoSuchElementException") ∈ lw_all := lw_g (lw_at lw_m6 61 rfl) rfl
theorem q1372 : (Jvm.Cond.methodLink "WrongRoomLaw" (7 : Nat) ({ cls := "WrongRoom", name := "led", desc := "(I)I" } : Jvm.MethodName)) ∈ lw_all := lw_g (lw_at lw_m6 62 rfl) rfl
theorem q1397 : (Jvm.Cond.classLink "WrongRoomLaw" (16 : Nat) "WrongRoomModel") ∈ lw_all := lw_g (lw_at lw_m6 87 rfl) rfl
theorem q1399 : (Jvm.Cond.methodLink "WrongRoomLaw" (18 : Nat) ({ cls := "WrongRoomModel", name := "<init>", desc := "()V" } : Jvm.MethodName)) ∈ lw_all := lw_g (lw_at lw_m6 89 rfl) rfl
theorem q1521 : (Jvm.Cond.methodLink "WrongRoomLaw" (204 : Nat) ({ cls := "WrongRoomModel", name := "thrown", desc := "()I" } : Jvm.MethodName)) ∈ lw_all := lw_g (lw_at lw_m6 211 rfl) rfl
theorem q1525 : (Jvm.Cond.methodLink "WrongRoomLaw" (23 : Nat) ({ cls := "WrongRoomModel", name := "feed", desc := "(IIIII)I" } : Jvm.MethodName)) ∈ lw_all := lw_g (lw_at lw_m6 215 rfl) rfl
theorem q1529 : (Jvm.Cond.methodLink "WrongRoomLaw" (27 : Nat) ({ cls := "WrongRoomModel", name := "town", desc := "(I)I" } : Jvm.MethodName)) ∈ lw_all := lw_g (lw_at lw_m6 219 rfl) rfl
theorem q1833 : (Jvm.Cond.methodLink "WrongRoomLaw" (32 : Nat) ({ cls := "WrongRoomModel", name := "fault", desc := "()I" } : Jvm.MethodName)) ∈ lw_all := lw_g (lw_at lw_m8 43 rfl) rfl
theorem q1837 : (Jvm.Cond.methodLink "WrongRoomLaw" (36 : Nat) ({ cls := "WrongRoomModel", name := "where", desc := "()I" } : Jvm.MethodName)) ∈ lw_all := lw_g (lw_at lw_m8 47 rfl) rfl
theorem q1841 : (Jvm.Cond.methodLink "WrongRoomLaw" (41 : Nat) ({ cls := "WrongRoomModel", name := "house", desc := "(II)I" } : Jvm.MethodName)) ∈ lw_all := lw_g (lw_at lw_m8 51 rfl) rfl
theorem q1856 : (Jvm.Cond.methodLink "WrongRoomLaw" (45 : Nat) ({ cls := "WrongRoomModel", name := "open", desc := "(II)I" } : Jvm.MethodName)) ∈ lw_all := lw_g (lw_at lw_m8 66 rfl) rfl
theorem q1870 : (Jvm.Cond.methodLink "WrongRoomLaw" (49 : Nat) ({ cls := "WrongRoomModel", name := "street", desc := "(II)I" } : Jvm.MethodName)) ∈ lw_all := lw_g (lw_at lw_m8 80 rfl) rfl
theorem q1874 : (Jvm.Cond.methodLink "WrongRoomLaw" (53 : Nat) ({ cls := "WrongRoomModel", name := "person", desc := "(II)I" } : Jvm.MethodName)) ∈ lw_all := lw_g (lw_at lw_m8 84 rfl) rfl
theorem q1882 : (Jvm.Cond.methodLink "WrongRoomLaw" (57 : Nat) ({ cls := "WrongRoomModel", name := "candle", desc := "(I)I" } : Jvm.MethodName)) ∈ lw_all := lw_g (lw_at lw_m8 92 rfl) rfl
theorem q1886 : (Jvm.Cond.methodLink "WrongRoomLaw" (61 : Nat) ({ cls := "WrongRoomModel", name := "candleAt", desc := "(II)I" } : Jvm.MethodName)) ∈ lw_all := lw_g (lw_at lw_m8 96 rfl) rfl
theorem q1890 : (Jvm.Cond.methodLink "WrongRoomLaw" (65 : Nat) ({ cls := "WrongRoomModel", name := "mutual", desc := "()I" } : Jvm.MethodName)) ∈ lw_all := lw_g (lw_at lw_m8 100 rfl) rfl
theorem q1901 : (Jvm.Cond.methodLink "WrongRoomLaw" (69 : Nat) ({ cls := "WrongRoomModel", name := "judge", desc := "()I" } : Jvm.MethodName)) ∈ lw_all := lw_g (lw_at lw_m8 111 rfl) rfl
theorem q1905 : (Jvm.Cond.methodLink "WrongRoomLaw" (74 : Nat) ({ cls := "WrongRoomModel", name := "way", desc := "(III)I" } : Jvm.MethodName)) ∈ lw_all := lw_g (lw_at lw_m8 115 rfl) rfl
theorem q1933 : (Jvm.Cond.methodLink "WrongRoomLaw" (79 : Nat) ({ cls := "WrongRoomModel", name := "wayAt", desc := "(IIII)I" } : Jvm.MethodName)) ∈ lw_all := lw_g (lw_at lw_m8 143 rfl) rfl
theorem q1937 : (Jvm.Cond.methodLink "WrongRoomLaw" (83 : Nat) ({ cls := "WrongRoomModel", name := "saves", desc := "(III)I" } : Jvm.MethodName)) ∈ lw_all := lw_g (lw_at lw_m8 147 rfl) rfl
theorem q1941 : (Jvm.Cond.methodLink "WrongRoomLaw" (87 : Nat) ({ cls := "WrongRoomModel", name := "farthest", desc := "(II)I" } : Jvm.MethodName)) ∈ lw_all := lw_g (lw_at lw_m8 151 rfl) rfl
theorem q1945 : (Jvm.Cond.methodLink "WrongRoomLaw" (91 : Nat) ({ cls := "WrongRoomModel", name := "homeIn", desc := "(I)I" } : Jvm.MethodName)) ∈ lw_all := lw_g (lw_at lw_m8 155 rfl) rfl
theorem q1949 : (Jvm.Cond.methodLink "WrongRoomLaw" (95 : Nat) ({ cls := "WrongRoomModel", name := "fits", desc := "()I" } : Jvm.MethodName)) ∈ lw_all := lw_g (lw_at lw_m8 159 rfl) rfl
theorem q1969 : (Jvm.Cond.methodLink "WrongRoomLaw" (99 : Nat) ({ cls := "WrongRoomModel", name := "could", desc := "(I)I" } : Jvm.MethodName)) ∈ lw_all := lw_g (lw_at lw_m8 179 rfl) rfl
theorem q1973 : (Jvm.Cond.methodLink "WrongRoomLaw" (103 : Nat) ({ cls := "WrongRoomModel", name := "surely", desc := "(I)I" } : Jvm.MethodName)) ∈ lw_all := lw_g (lw_at lw_m8 183 rfl) rfl
theorem q1977 : (Jvm.Cond.methodLink "WrongRoomLaw" (107 : Nat) ({ cls := "WrongRoomModel", name := "firstOf", desc := "(I)I" } : Jvm.MethodName)) ∈ lw_all := lw_g (lw_at lw_m8 187 rfl) rfl
theorem q1981 : (Jvm.Cond.methodLink "WrongRoomLaw" (111 : Nat) ({ cls := "WrongRoomModel", name := "ask", desc := "()I" } : Jvm.MethodName)) ∈ lw_all := lw_g (lw_at lw_m8 191 rfl) rfl
theorem q1989 : (Jvm.Cond.methodLink "WrongRoomLaw" (115 : Nat) ({ cls := "WrongRoomModel", name := "askLeaves", desc := "()I" } : Jvm.MethodName)) ∈ lw_all := lw_g (lw_at lw_m8 199 rfl) rfl
theorem q1993 : (Jvm.Cond.methodLink "WrongRoomLaw" (120 : Nat) ({ cls := "WrongRoomModel", name := "owes", desc := "(IZ)J" } : Jvm.MethodName)) ∈ lw_all := lw_g (lw_at lw_m8 203 rfl) rfl
theorem q2012 : (Jvm.Cond.methodLink "WrongRoomLaw" (124 : Nat) ({ cls := "WrongRoomModel", name := "net", desc := "(IZ)J" } : Jvm.MethodName)) ∈ lw_all := lw_g (lw_at lw_m8 222 rfl) rfl
theorem q2017 : (Jvm.Cond.methodLink "WrongRoomLaw" (128 : Nat) ({ cls := "WrongRoomModel", name := "debtor", desc := "()I" } : Jvm.MethodName)) ∈ lw_all := lw_g (lw_at lw_m8 227 rfl) rfl
theorem q2021 : (Jvm.Cond.methodLink "WrongRoomLaw" (132 : Nat) ({ cls := "WrongRoomModel", name := "paired", desc := "()I" } : Jvm.MethodName)) ∈ lw_all := lw_g (lw_at lw_m8 231 rfl) rfl
theorem q2050 : (Jvm.Cond.methodLink "WrongRoomLaw" (136 : Nat) ({ cls := "WrongRoomModel", name := "fewest", desc := "()I" } : Jvm.MethodName)) ∈ lw_all := lw_g (lw_at lw_m9 20 rfl) rfl
theorem q2054 : (Jvm.Cond.methodLink "WrongRoomLaw" (140 : Nat) ({ cls := "WrongRoomModel", name := "exchangeAt", desc := "(I)I" } : Jvm.MethodName)) ∈ lw_all := lw_g (lw_at lw_m9 24 rfl) rfl
theorem q2058 : (Jvm.Cond.methodLink "WrongRoomLaw" (144 : Nat) ({ cls := "WrongRoomModel", name := "stands", desc := "(I)I" } : Jvm.MethodName)) ∈ lw_all := lw_g (lw_at lw_m9 28 rfl) rfl
theorem q2066 : (Jvm.Cond.methodLink "WrongRoomLaw" (149 : Nat) ({ cls := "WrongRoomModel", name := "gain", desc := "(IIIIZ)I" } : Jvm.MethodName)) ∈ lw_all := lw_g (lw_at lw_m9 36 rfl) rfl
theorem q2078 : (Jvm.Cond.methodLink "WrongRoomLaw" (153 : Nat) ({ cls := "WrongRoomModel", name := "rests", desc := "(II)I" } : Jvm.MethodName)) ∈ lw_all := lw_g (lw_at lw_m9 48 rfl) rfl
theorem q2086 : (Jvm.Cond.methodLink "WrongRoomLaw" (157 : Nat) ({ cls := "WrongRoomModel", name := "rest", desc := "(II)I" } : Jvm.MethodName)) ∈ lw_all := lw_g (lw_at lw_m9 56 rfl) rfl
theorem q2090 : (Jvm.Cond.methodLink "WrongRoomLaw" (161 : Nat) ({ cls := "WrongRoomModel", name := "builders", desc := "(II)I" } : Jvm.MethodName)) ∈ lw_all := lw_g (lw_at lw_m9 60 rfl) rfl
theorem q2106 : (Jvm.Cond.methodLink "WrongRoomLaw" (165 : Nat) ({ cls := "WrongRoomModel", name := "builtOf", desc := "(III)I" } : Jvm.MethodName)) ∈ lw_all := lw_g (lw_at lw_m9 76 rfl) rfl
theorem q2110 : (Jvm.Cond.methodLink "WrongRoomLaw" (170 : Nat) ({ cls := "WrongRoomModel", name := "exchange", desc := "(II)Z" } : Jvm.MethodName)) ∈ lw_all := lw_g (lw_at lw_m9 80 rfl) rfl
theorem q2126 : (Jvm.Cond.methodLink "WrongRoomLaw" (175 : Nat) ({ cls := "WrongRoomModel", name := "shut", desc := "(IZ)Z" } : Jvm.MethodName)) ∈ lw_all := lw_g (lw_at lw_m9 96 rfl) rfl
theorem q2130 : (Jvm.Cond.methodLink "WrongRoomLaw" (179 : Nat) ({ cls := "WrongRoomModel", name := "go", desc := "(II)I" } : Jvm.MethodName)) ∈ lw_all := lw_g (lw_at lw_m9 100 rfl) rfl
theorem q2134 : (Jvm.Cond.methodLink "WrongRoomLaw" (183 : Nat) ({ cls := "WrongRoomModel", name := "waits", desc := "(II)I" } : Jvm.MethodName)) ∈ lw_all := lw_g (lw_at lw_m9 104 rfl) rfl
theorem q2138 : (Jvm.Cond.methodLink "WrongRoomLaw" (188 : Nat) ({ cls := "WrongRoomModel", name := "undo", desc := "()Z" } : Jvm.MethodName)) ∈ lw_all := lw_g (lw_at lw_m9 108 rfl) rfl
theorem q2142 : (Jvm.Cond.methodLink "WrongRoomLaw" (192 : Nat) ({ cls := "WrongRoomModel", name := "mark", desc := "()I" } : Jvm.MethodName)) ∈ lw_all := lw_g (lw_at lw_m9 112 rfl) rfl
theorem q2146 : (Jvm.Cond.methodLink "WrongRoomLaw" (197 : Nat) ({ cls := "WrongRoomModel", name := "back", desc := "(I)Z" } : Jvm.MethodName)) ∈ lw_all := lw_g (lw_at lw_m9 116 rfl) rfl
theorem q2150 : (Jvm.Cond.methodLink "WrongRoomLaw" (203 : Nat) ({ cls := "WrongRoomModel", name := "led", desc := "(I)I" } : Jvm.MethodName)) ∈ lw_all := lw_g (lw_at lw_m9 120 rfl) rfl
theorem q2154 : (Jvm.Cond.methodLink "WrongRoomLaw" (210 : Nat) ({ cls := "WrongRoomModel", name := "size", desc := "(I)I" } : Jvm.MethodName)) ∈ lw_all := lw_g (lw_at lw_m9 124 rfl) rfl
theorem q2162 : (Jvm.Cond.methodLink "WrongRoomLaw" (214 : Nat) ({ cls := "WrongRoomModel", name := "trouble", desc := "()I" } : Jvm.MethodName)) ∈ lw_all := lw_g (lw_at lw_m9 132 rfl) rfl
/-! WrongRoom$Reader -/
set_option maxRecDepth 100000
def RX2 : String := "WrongRoom$Reader"
def TX2 : u_T := fun k => match k with
  | 0 => ("WrongRoom$Reader", "wrong", "LWrongRoom$Refused;", true)
  | 1 => ("WrongRoom$Reader", "text", "[B", true)
  | 2 => ("WrongRoom$Reader", "letters", "[C", true)
  | 3 => ("WrongRoom$Reader", "size", "I", false)
  | 4 => ("WrongRoom$Reader", "end", "I", false)
  | 5 => ("WrongRoom$Reader", "token", "I", false)
  | 6 => ("WrongRoom$Reader", "at", "I", false)
  | 7 => ("WrongRoom$Reader", "whole", "I", false)
  | 8 => ("WrongRoom$Reader", "word", "Ljava/lang/String;", false)
  | 9 => ("WrongRoom$Reader", "town", "LWrongRoom$Town;", false)
  | _ => ("WrongRoom$Reader", "told", "Z", false)
def tyX2 : Nat → FieldType := fun k => match k with
  | 0 => .object "WrongRoom$Refused"
  | 1 => .array .byte
  | 2 => .array .char
  | 3 => .int
  | 4 => .int
  | 5 => .int
  | 6 => .int
  | 7 => .int
  | 8 => .object "java/lang/String"
  | 9 => .object "WrongRoom$Town"
  | _ => .boolean
abbrev wsX20 : List Cond := u_ws RX2 TX2 11
theorem nmX2 : ∀ a, a < 11 → ∀ b, b < 11 → a ≠ b → (TX2 a).2.1 ≠ (TX2 b).2.1 := by decide +kernel
theorem tyX2_ok : ∀ k, k < 11 → parseFieldDescriptor (TX2 k).2.2.1 = some (tyX2 k) := by decide +kernel
abbrev cX2_init : ByteArray := prog_11_method_1_code
def yX2_init : MethodName := ⟨RX2, "<init>", "([B)V"⟩
def dkwX2_init_1 : List UInt8 := [43, 181, 0, 22, 177]
abbrev dktX2_init_1 : List UInt8 := dkwX2_init_1 ++ []
def dkwX2_init_0 : List UInt8 := [42, 183, 0, 3, 42, 187, 0, 9, 89, 183, 0, 11, 181, 0, 12, 42, 16, 8, 188, 5, 181, 0, 18, 42]
abbrev dktX2_init_0 : List UInt8 := dkwX2_init_0 ++ dktX2_init_1
theorem dksX2_init_0 : cX2_init.data.toList.drop 0 = dktX2_init_0 := by decide +kernel
theorem dksX2_init_1 : cX2_init.data.toList.drop 24 = dktX2_init_1 := dk_seg dksX2_init_0 24 rfl rfl
theorem dX2_init_0 : decode cX2_init 0 = .ok (.aload_n 0, 1) := dk_42 (dk_at dksX2_init_0 0 rfl rfl)
theorem dX2_init_1 : decode cX2_init 1 = .ok (.invokespecial 3, 3) := dk_183 0 3 (dk_at dksX2_init_0 1 rfl rfl)
theorem dX2_init_4 : decode cX2_init 4 = .ok (.aload_n 0, 1) := dk_42 (dk_at dksX2_init_0 4 rfl rfl)
theorem dX2_init_5 : decode cX2_init 5 = .ok (.new 9, 3) := dk_187 0 9 (dk_at dksX2_init_0 5 rfl rfl)
theorem dX2_init_8 : decode cX2_init 8 = .ok (.dup, 1) := dk_89 (dk_at dksX2_init_0 8 rfl rfl)
theorem dX2_init_9 : decode cX2_init 9 = .ok (.invokespecial 11, 3) := dk_183 0 11 (dk_at dksX2_init_0 9 rfl rfl)
theorem dX2_init_12 : decode cX2_init 12 = .ok (.putfield 12, 3) := dk_181 0 12 (dk_at dksX2_init_0 12 rfl rfl)
theorem dX2_init_15 : decode cX2_init 15 = .ok (.aload_n 0, 1) := dk_42 (dk_at dksX2_init_0 15 rfl rfl)
theorem dX2_init_16 : decode cX2_init 16 = .ok (.bipush 8, 2) := dk_16 8 (dk_at dksX2_init_0 16 rfl rfl)
theorem dX2_init_18 : decode cX2_init 18 = .ok (.newarray .char, 2) := dk_188_5 (dk_at dksX2_init_0 18 rfl rfl)
theorem dX2_init_20 : decode cX2_init 20 = .ok (.putfield 18, 3) := dk_181 0 18 (dk_at dksX2_init_0 20 rfl rfl)
theorem dX2_init_23 : decode cX2_init 23 = .ok (.aload_n 0, 1) := dk_42 (dk_at dksX2_init_0 23 rfl rfl)
theorem dX2_init_24 : decode cX2_init 24 = .ok (.aload_n 1, 1) := dk_43 (dk_at dksX2_init_1 0 rfl rfl)
theorem dX2_init_25 : decode cX2_init 25 = .ok (.putfield 22, 3) := dk_181 0 22 (dk_at dksX2_init_1 1 rfl rfl)
theorem dX2_init_28 : decode cX2_init 28 = .ok (.return_, 1) := dk_177 (dk_at dksX2_init_1 4 rfl rfl)
abbrev cX2_read : ByteArray := prog_11_method_17_code
def yX2_read : MethodName := ⟨RX2, "read", "(I)LWrongRoom$Town;"⟩
def dkwX2_read_4 : List UInt8 := [180, 0, 108, 176]
abbrev dktX2_read_4 : List UInt8 := dkwX2_read_4 ++ []
def dkwX2_read_3 : List UInt8 := [153, 0, 14, 42, 180, 0, 108, 180, 0, 139, 5, 162, 0, 10, 42, 16, 6, 182, 0, 82, 191, 42]
abbrev dktX2_read_3 : List UInt8 := dkwX2_read_3 ++ dktX2_read_4
def dkwX2_read_2 : List UInt8 := [42, 182, 0, 136, 167, 255, 239, 42, 180, 0, 47, 153, 0, 9, 42, 4, 182, 0, 82, 191, 42, 180, 0, 131]
abbrev dktX2_read_2 : List UInt8 := dkwX2_read_2 ++ dktX2_read_3
def dkwX2_read_1 : List UInt8 := [181, 0, 131, 42, 182, 0, 75, 42, 182, 0, 136, 42, 180, 0, 47, 16, 59, 160, 0, 14, 42, 182, 0, 75]
abbrev dktX2_read_1 : List UInt8 := dkwX2_read_1 ++ dktX2_read_2
def dkwX2_read_0 : List UInt8 := [42, 27, 181, 0, 33, 42, 3, 181, 0, 40, 42, 187, 0, 112, 89, 183, 0, 135, 181, 0, 108, 42, 3]
abbrev dktX2_read_0 : List UInt8 := dkwX2_read_0 ++ dktX2_read_1
theorem dksX2_read_0 : cX2_read.data.toList.drop 0 = dktX2_read_0 := by decide +kernel
theorem dksX2_read_1 : cX2_read.data.toList.drop 23 = dktX2_read_1 := dk_seg dksX2_read_0 23 rfl rfl
theorem dksX2_read_2 : cX2_read.data.toList.drop 47 = dktX2_read_2 := dk_seg dksX2_read_1 24 rfl rfl
theorem dksX2_read_3 : cX2_read.data.toList.drop 71 = dktX2_read_3 := dk_seg dksX2_read_2 24 rfl rfl
theorem dksX2_read_4 : cX2_read.data.toList.drop 93 = dktX2_read_4 := dk_seg dksX2_read_3 22 rfl rfl
theorem dX2_read_0 : decode cX2_read 0 = .ok (.aload_n 0, 1) := dk_42 (dk_at dksX2_read_0 0 rfl rfl)
theorem dX2_read_1 : decode cX2_read 1 = .ok (.iload_n 1, 1) := dk_27 (dk_at dksX2_read_0 1 rfl rfl)
theorem dX2_read_2 : decode cX2_read 2 = .ok (.putfield 33, 3) := dk_181 0 33 (dk_at dksX2_read_0 2 rfl rfl)
theorem dX2_read_5 : decode cX2_read 5 = .ok (.aload_n 0, 1) := dk_42 (dk_at dksX2_read_0 5 rfl rfl)
theorem dX2_read_6 : decode cX2_read 6 = .ok (.iconst 0, 1) := dk_3 (dk_at dksX2_read_0 6 rfl rfl)
theorem dX2_read_7 : decode cX2_read 7 = .ok (.putfield 40, 3) := dk_181 0 40 (dk_at dksX2_read_0 7 rfl rfl)
theorem dX2_read_10 : decode cX2_read 10 = .ok (.aload_n 0, 1) := dk_42 (dk_at dksX2_read_0 10 rfl rfl)
theorem dX2_read_11 : decode cX2_read 11 = .ok (.new 112, 3) := dk_187 0 112 (dk_at dksX2_read_0 11 rfl rfl)
theorem dX2_read_14 : decode cX2_read 14 = .ok (.dup, 1) := dk_89 (dk_at dksX2_read_0 14 rfl rfl)
theorem dX2_read_15 : decode cX2_read 15 = .ok (.invokespecial 135, 3) := dk_183 0 135 (dk_at dksX2_read_0 15 rfl rfl)
theorem dX2_read_18 : decode cX2_read 18 = .ok (.putfield 108, 3) := dk_181 0 108 (dk_at dksX2_read_0 18 rfl rfl)
theorem dX2_read_21 : decode cX2_read 21 = .ok (.aload_n 0, 1) := dk_42 (dk_at dksX2_read_0 21 rfl rfl)
theorem dX2_read_22 : decode cX2_read 22 = .ok (.iconst 0, 1) := dk_3 (dk_at dksX2_read_0 22 rfl rfl)
theorem dX2_read_23 : decode cX2_read 23 = .ok (.putfield 131, 3) := dk_181 0 131 (dk_at dksX2_read_1 0 rfl rfl)
theorem dX2_read_26 : decode cX2_read 26 = .ok (.aload_n 0, 1) := dk_42 (dk_at dksX2_read_1 3 rfl rfl)
theorem dX2_read_27 : decode cX2_read 27 = .ok (.invokevirtual 75, 3) := dk_182 0 75 (dk_at dksX2_read_1 4 rfl rfl)
theorem dX2_read_30 : decode cX2_read 30 = .ok (.aload_n 0, 1) := dk_42 (dk_at dksX2_read_1 7 rfl rfl)
theorem dX2_read_31 : decode cX2_read 31 = .ok (.invokevirtual 136, 3) := dk_182 0 136 (dk_at dksX2_read_1 8 rfl rfl)
theorem dX2_read_34 : decode cX2_read 34 = .ok (.aload_n 0, 1) := dk_42 (dk_at dksX2_read_1 11 rfl rfl)
theorem dX2_read_35 : decode cX2_read 35 = .ok (.getfield 47, 3) := dk_180 0 47 (dk_at dksX2_read_1 12 rfl rfl)
theorem dX2_read_38 : decode cX2_read 38 = .ok (.bipush 59, 2) := dk_16 59 (dk_at dksX2_read_1 15 rfl rfl)
theorem dX2_read_40 : decode cX2_read 40 = .ok (.if_icmp .ne 14, 3) := dk_160 0 14 (dk_at dksX2_read_1 17 rfl rfl)
theorem dX2_read_43 : decode cX2_read 43 = .ok (.aload_n 0, 1) := dk_42 (dk_at dksX2_read_1 20 rfl rfl)
theorem dX2_read_44 : decode cX2_read 44 = .ok (.invokevirtual 75, 3) := dk_182 0 75 (dk_at dksX2_read_1 21 rfl rfl)
theorem dX2_read_47 : decode cX2_read 47 = .ok (.aload_n 0, 1) := dk_42 (dk_at dksX2_read_2 0 rfl rfl)
theorem dX2_read_48 : decode cX2_read 48 = .ok (.invokevirtual 136, 3) := dk_182 0 136 (dk_at dksX2_read_2 1 rfl rfl)
theorem dX2_read_51 : decode cX2_read 51 = .ok (.goto (-17), 3) := dk_167 255 239 (dk_at dksX2_read_2 4 rfl rfl)
theorem dX2_read_54 : decode cX2_read 54 = .ok (.aload_n 0, 1) := dk_42 (dk_at dksX2_read_2 7 rfl rfl)
theorem dX2_read_55 : decode cX2_read 55 = .ok (.getfield 47, 3) := dk_180 0 47 (dk_at dksX2_read_2 8 rfl rfl)
theorem dX2_read_58 : decode cX2_read 58 = .ok (.ifCond .eq 9, 3) := dk_153 0 9 (dk_at dksX2_read_2 11 rfl rfl)
theorem dX2_read_61 : decode cX2_read 61 = .ok (.aload_n 0, 1) := dk_42 (dk_at dksX2_read_2 14 rfl rfl)
theorem dX2_read_62 : decode cX2_read 62 = .ok (.iconst 1, 1) := dk_4 (dk_at dksX2_read_2 15 rfl rfl)
theorem dX2_read_63 : decode cX2_read 63 = .ok (.invokevirtual 82, 3) := dk_182 0 82 (dk_at dksX2_read_2 16 rfl rfl)
theorem dX2_read_66 : decode cX2_read 66 = .ok (.athrow, 1) := dk_191 (dk_at dksX2_read_2 19 rfl rfl)
theorem dX2_read_67 : decode cX2_read 67 = .ok (.aload_n 0, 1) := dk_42 (dk_at dksX2_read_2 20 rfl rfl)
theorem dX2_read_68 : decode cX2_read 68 = .ok (.getfield 131, 3) := dk_180 0 131 (dk_at dksX2_read_2 21 rfl rfl)
theorem dX2_read_71 : decode cX2_read 71 = .ok (.ifCond .eq 14, 3) := dk_153 0 14 (dk_at dksX2_read_3 0 rfl rfl)
theorem dX2_read_74 : decode cX2_read 74 = .ok (.aload_n 0, 1) := dk_42 (dk_at dksX2_read_3 3 rfl rfl)
theorem dX2_read_75 : decode cX2_read 75 = .ok (.getfield 108, 3) := dk_180 0 108 (dk_at dksX2_read_3 4 rfl rfl)
theorem dX2_read_78 : decode cX2_read 78 = .ok (.getfield 139, 3) := dk_180 0 139 (dk_at dksX2_read_3 7 rfl rfl)
theorem dX2_read_81 : decode cX2_read 81 = .ok (.iconst 2, 1) := dk_5 (dk_at dksX2_read_3 10 rfl rfl)
theorem dX2_read_82 : decode cX2_read 82 = .ok (.if_icmp .ge 10, 3) := dk_162 0 10 (dk_at dksX2_read_3 11 rfl rfl)
theorem dX2_read_85 : decode cX2_read 85 = .ok (.aload_n 0, 1) := dk_42 (dk_at dksX2_read_3 14 rfl rfl)
theorem dX2_read_86 : decode cX2_read 86 = .ok (.bipush 6, 2) := dk_16 6 (dk_at dksX2_read_3 15 rfl rfl)
theorem dX2_read_88 : decode cX2_read 88 = .ok (.invokevirtual 82, 3) := dk_182 0 82 (dk_at dksX2_read_3 17 rfl rfl)
theorem dX2_read_91 : decode cX2_read 91 = .ok (.athrow, 1) := dk_191 (dk_at dksX2_read_3 20 rfl rfl)
theorem dX2_read_92 : decode cX2_read 92 = .ok (.aload_n 0, 1) := dk_42 (dk_at dksX2_read_3 21 rfl rfl)
theorem dX2_read_93 : decode cX2_read 93 = .ok (.getfield 108, 3) := dk_180 0 108 (dk_at dksX2_read_4 0 rfl rfl)
theorem dX2_read_96 : decode cX2_read 96 = .ok (.areturn, 1) := dk_176 (dk_at dksX2_read_4 3 rfl rfl)
abbrev cX2_next : ByteArray := prog_11_method_6_code
def yX2_next : MethodName := ⟨RX2, "next", "()V"⟩
def dkwX2_next_12 : List UInt8 := [181, 0, 47, 167, 0, 18, 42, 28, 16, 59, 160, 0, 7, 28, 167, 0, 4, 4, 181, 0, 47, 177]
abbrev dktX2_next_12 : List UInt8 := dkwX2_next_12 ++ []
def dkwX2_next_11 : List UInt8 := [181, 0, 40, 167, 255, 199, 42, 42, 180, 0, 40, 27, 100, 6, 164, 0, 7, 4, 167, 0, 4, 6]
abbrev dktX2_next_11 : List UInt8 := dkwX2_next_11 ++ dktX2_next_12
def dkwX2_next_10 : List UInt8 := [42, 42, 180, 0, 40, 182, 0, 43, 96, 16, 48, 100, 181, 0, 68, 42, 89, 180, 0, 40, 4, 96]
abbrev dktX2_next_10 : List UInt8 := dkwX2_next_10 ++ dktX2_next_11
def dkwX2_next_9 : List UInt8 := [184, 0, 65, 153, 0, 49, 42, 180, 0, 40, 27, 100, 6, 162, 0, 26, 42, 16, 10, 42, 180, 0, 68, 104]
abbrev dktX2_next_9 : List UInt8 := dkwX2_next_9 ++ dktX2_next_10
def dkwX2_next_8 : List UInt8 := [184, 0, 65, 153, 0, 95, 42, 3, 181, 0, 68, 42, 27, 181, 0, 40, 42, 42, 180, 0, 40, 182, 0, 43]
abbrev dktX2_next_8 : List UInt8 := dkwX2_next_8 ++ dktX2_next_9
def dkwX2_next_7 : List UInt8 := [3, 42, 180, 0, 40, 27, 100, 183, 0, 56, 167, 0, 5, 18, 59, 181, 0, 61, 167, 0, 117, 28]
abbrev dktX2_next_7 : List UInt8 := dkwX2_next_7 ++ dktX2_next_8
def dkwX2_next_6 : List UInt8 := [167, 0, 4, 5, 181, 0, 47, 42, 42, 180, 0, 47, 5, 160, 0, 24, 187, 0, 54, 89, 42, 180, 0, 18]
abbrev dktX2_next_6 : List UInt8 := dkwX2_next_6 ++ dktX2_next_7
def dkwX2_next_5 : List UInt8 := [180, 0, 40, 4, 96, 181, 0, 40, 167, 255, 201, 42, 42, 180, 0, 40, 27, 100, 16, 8, 164, 0, 7, 4]
abbrev dktX2_next_5 : List UInt8 := dkwX2_next_5 ++ dktX2_next_6
def dkwX2_next_4 : List UInt8 := [42, 180, 0, 18, 42, 180, 0, 40, 27, 100, 42, 42, 180, 0, 40, 182, 0, 43, 146, 85, 42, 89]
abbrev dktX2_next_4 : List UInt8 := dkwX2_next_4 ++ dktX2_next_5
def dkwX2_next_3 : List UInt8 := [42, 180, 0, 40, 182, 0, 43, 184, 0, 50, 153, 0, 47, 42, 180, 0, 40, 27, 100, 16, 8, 162, 0, 23]
abbrev dktX2_next_3 : List UInt8 := dkwX2_next_3 ++ dktX2_next_4
def dkwX2_next_2 : List UInt8 := [181, 0, 47, 42, 27, 181, 0, 40, 167, 0, 245, 28, 184, 0, 50, 153, 0, 124, 42, 27, 181, 0, 40, 42]
abbrev dktX2_next_2 : List UInt8 := dkwX2_next_2 ++ dktX2_next_3
def dkwX2_next_1 : List UInt8 := [181, 0, 26, 42, 27, 4, 96, 181, 0, 40, 42, 27, 182, 0, 43, 61, 28, 2, 160, 0, 16, 42, 3]
abbrev dktX2_next_1 : List UInt8 := dkwX2_next_1 ++ dktX2_next_2
def dkwX2_next_0 : List UInt8 := [42, 180, 0, 40, 60, 42, 27, 182, 0, 43, 16, 32, 160, 0, 9, 132, 1, 1, 167, 255, 243, 42, 27]
abbrev dktX2_next_0 : List UInt8 := dkwX2_next_0 ++ dktX2_next_1
theorem dksX2_next_0 : cX2_next.data.toList.drop 0 = dktX2_next_0 := by decide +kernel
theorem dksX2_next_1 : cX2_next.data.toList.drop 23 = dktX2_next_1 := dk_seg dksX2_next_0 23 rfl rfl
theorem dksX2_next_2 : cX2_next.data.toList.drop 46 = dktX2_next_2 := dk_seg dksX2_next_1 23 rfl rfl
theorem dksX2_next_3 : cX2_next.data.toList.drop 70 = dktX2_next_3 := dk_seg dksX2_next_2 24 rfl rfl
theorem dksX2_next_4 : cX2_next.data.toList.drop 94 = dktX2_next_4 := dk_seg dksX2_next_3 24 rfl rfl
theorem dksX2_next_5 : cX2_next.data.toList.drop 116 = dktX2_next_5 := dk_seg dksX2_next_4 22 rfl rfl
theorem dksX2_next_6 : cX2_next.data.toList.drop 140 = dktX2_next_6 := dk_seg dksX2_next_5 24 rfl rfl
theorem dksX2_next_7 : cX2_next.data.toList.drop 164 = dktX2_next_7 := dk_seg dksX2_next_6 24 rfl rfl
theorem dksX2_next_8 : cX2_next.data.toList.drop 186 = dktX2_next_8 := dk_seg dksX2_next_7 22 rfl rfl
theorem dksX2_next_9 : cX2_next.data.toList.drop 210 = dktX2_next_9 := dk_seg dksX2_next_8 24 rfl rfl
theorem dksX2_next_10 : cX2_next.data.toList.drop 234 = dktX2_next_10 := dk_seg dksX2_next_9 24 rfl rfl
theorem dksX2_next_11 : cX2_next.data.toList.drop 256 = dktX2_next_11 := dk_seg dksX2_next_10 22 rfl rfl
theorem dksX2_next_12 : cX2_next.data.toList.drop 278 = dktX2_next_12 := dk_seg dksX2_next_11 22 rfl rfl
theorem dX2_next_0 : decode cX2_next 0 = .ok (.aload_n 0, 1) := dk_42 (dk_at dksX2_next_0 0 rfl rfl)
theorem dX2_next_1 : decode cX2_next 1 = .ok (.getfield 40, 3) := dk_180 0 40 (dk_at dksX2_next_0 1 rfl rfl)
theorem dX2_next_4 : decode cX2_next 4 = .ok (.istore_n 1, 1) := dk_60 (dk_at dksX2_next_0 4 rfl rfl)
theorem dX2_next_5 : decode cX2_next 5 = .ok (.aload_n 0, 1) := dk_42 (dk_at dksX2_next_0 5 rfl rfl)
theorem dX2_next_6 : decode cX2_next 6 = .ok (.iload_n 1, 1) := dk_27 (dk_at dksX2_next_0 6 rfl rfl)
theorem dX2_next_7 : decode cX2_next 7 = .ok (.invokevirtual 43, 3) := dk_182 0 43 (dk_at dksX2_next_0 7 rfl rfl)
theorem dX2_next_10 : decode cX2_next 10 = .ok (.bipush 32, 2) := dk_16 32 (dk_at dksX2_next_0 10 rfl rfl)
theorem dX2_next_12 : decode cX2_next 12 = .ok (.if_icmp .ne 9, 3) := dk_160 0 9 (dk_at dksX2_next_0 12 rfl rfl)
theorem dX2_next_15 : decode cX2_next 15 = .ok (.iinc 1 1, 3) := dk_132 1 1 (dk_at dksX2_next_0 15 rfl rfl)
theorem dX2_next_18 : decode cX2_next 18 = .ok (.goto (-13), 3) := dk_167 255 243 (dk_at dksX2_next_0 18 rfl rfl)
theorem dX2_next_21 : decode cX2_next 21 = .ok (.aload_n 0, 1) := dk_42 (dk_at dksX2_next_0 21 rfl rfl)
theorem dX2_next_22 : decode cX2_next 22 = .ok (.iload_n 1, 1) := dk_27 (dk_at dksX2_next_0 22 rfl rfl)
theorem dX2_next_23 : decode cX2_next 23 = .ok (.putfield 26, 3) := dk_181 0 26 (dk_at dksX2_next_1 0 rfl rfl)
theorem dX2_next_26 : decode cX2_next 26 = .ok (.aload_n 0, 1) := dk_42 (dk_at dksX2_next_1 3 rfl rfl)
theorem dX2_next_27 : decode cX2_next 27 = .ok (.iload_n 1, 1) := dk_27 (dk_at dksX2_next_1 4 rfl rfl)
theorem dX2_next_28 : decode cX2_next 28 = .ok (.iconst 1, 1) := dk_4 (dk_at dksX2_next_1 5 rfl rfl)
theorem dX2_next_29 : decode cX2_next 29 = .ok (.iadd, 1) := dk_96 (dk_at dksX2_next_1 6 rfl rfl)
theorem dX2_next_30 : decode cX2_next 30 = .ok (.putfield 40, 3) := dk_181 0 40 (dk_at dksX2_next_1 7 rfl rfl)
theorem dX2_next_33 : decode cX2_next 33 = .ok (.aload_n 0, 1) := dk_42 (dk_at dksX2_next_1 10 rfl rfl)
theorem dX2_next_34 : decode cX2_next 34 = .ok (.iload_n 1, 1) := dk_27 (dk_at dksX2_next_1 11 rfl rfl)
theorem dX2_next_35 : decode cX2_next 35 = .ok (.invokevirtual 43, 3) := dk_182 0 43 (dk_at dksX2_next_1 12 rfl rfl)
theorem dX2_next_38 : decode cX2_next 38 = .ok (.istore_n 2, 1) := dk_61 (dk_at dksX2_next_1 15 rfl rfl)
theorem dX2_next_39 : decode cX2_next 39 = .ok (.iload_n 2, 1) := dk_28 (dk_at dksX2_next_1 16 rfl rfl)
theorem dX2_next_40 : decode cX2_next 40 = .ok (.iconst (-1), 1) := dk_2 (dk_at dksX2_next_1 17 rfl rfl)
theorem dX2_next_41 : decode cX2_next 41 = .ok (.if_icmp .ne 16, 3) := dk_160 0 16 (dk_at dksX2_next_1 18 rfl rfl)
theorem dX2_next_44 : decode cX2_next 44 = .ok (.aload_n 0, 1) := dk_42 (dk_at dksX2_next_1 21 rfl rfl)
theorem dX2_next_45 : decode cX2_next 45 = .ok (.iconst 0, 1) := dk_3 (dk_at dksX2_next_1 22 rfl rfl)
theorem dX2_next_46 : decode cX2_next 46 = .ok (.putfield 47, 3) := dk_181 0 47 (dk_at dksX2_next_2 0 rfl rfl)
theorem dX2_next_49 : decode cX2_next 49 = .ok (.aload_n 0, 1) := dk_42 (dk_at dksX2_next_2 3 rfl rfl)
theorem dX2_next_50 : decode cX2_next 50 = .ok (.iload_n 1, 1) := dk_27 (dk_at dksX2_next_2 4 rfl rfl)
theorem dX2_next_51 : decode cX2_next 51 = .ok (.putfield 40, 3) := dk_181 0 40 (dk_at dksX2_next_2 5 rfl rfl)
theorem dX2_next_54 : decode cX2_next 54 = .ok (.goto 245, 3) := dk_167 0 245 (dk_at dksX2_next_2 8 rfl rfl)
theorem dX2_next_57 : decode cX2_next 57 = .ok (.iload_n 2, 1) := dk_28 (dk_at dksX2_next_2 11 rfl rfl)
theorem dX2_next_58 : decode cX2_next 58 = .ok (.invokestatic 50, 3) := dk_184 0 50 (dk_at dksX2_next_2 12 rfl rfl)
theorem dX2_next_61 : decode cX2_next 61 = .ok (.ifCond .eq 124, 3) := dk_153 0 124 (dk_at dksX2_next_2 15 rfl rfl)
theorem dX2_next_64 : decode cX2_next 64 = .ok (.aload_n 0, 1) := dk_42 (dk_at dksX2_next_2 18 rfl rfl)
theorem dX2_next_65 : decode cX2_next 65 = .ok (.iload_n 1, 1) := dk_27 (dk_at dksX2_next_2 19 rfl rfl)
theorem dX2_next_66 : decode cX2_next 66 = .ok (.putfield 40, 3) := dk_181 0 40 (dk_at dksX2_next_2 20 rfl rfl)
theorem dX2_next_69 : decode cX2_next 69 = .ok (.aload_n 0, 1) := dk_42 (dk_at dksX2_next_2 23 rfl rfl)
theorem dX2_next_70 : decode cX2_next 70 = .ok (.aload_n 0, 1) := dk_42 (dk_at dksX2_next_3 0 rfl rfl)
theorem dX2_next_71 : decode cX2_next 71 = .ok (.getfield 40, 3) := dk_180 0 40 (dk_at dksX2_next_3 1 rfl rfl)
theorem dX2_next_74 : decode cX2_next 74 = .ok (.invokevirtual 43, 3) := dk_182 0 43 (dk_at dksX2_next_3 4 rfl rfl)
theorem dX2_next_77 : decode cX2_next 77 = .ok (.invokestatic 50, 3) := dk_184 0 50 (dk_at dksX2_next_3 7 rfl rfl)
theorem dX2_next_80 : decode cX2_next 80 = .ok (.ifCond .eq 47, 3) := dk_153 0 47 (dk_at dksX2_next_3 10 rfl rfl)
theorem dX2_next_83 : decode cX2_next 83 = .ok (.aload_n 0, 1) := dk_42 (dk_at dksX2_next_3 13 rfl rfl)
theorem dX2_next_84 : decode cX2_next 84 = .ok (.getfield 40, 3) := dk_180 0 40 (dk_at dksX2_next_3 14 rfl rfl)
theorem dX2_next_87 : decode cX2_next 87 = .ok (.iload_n 1, 1) := dk_27 (dk_at dksX2_next_3 17 rfl rfl)
theorem dX2_next_88 : decode cX2_next 88 = .ok (.isub, 1) := dk_100 (dk_at dksX2_next_3 18 rfl rfl)
theorem dX2_next_89 : decode cX2_next 89 = .ok (.bipush 8, 2) := dk_16 8 (dk_at dksX2_next_3 19 rfl rfl)
theorem dX2_next_91 : decode cX2_next 91 = .ok (.if_icmp .ge 23, 3) := dk_162 0 23 (dk_at dksX2_next_3 21 rfl rfl)
theorem dX2_next_94 : decode cX2_next 94 = .ok (.aload_n 0, 1) := dk_42 (dk_at dksX2_next_4 0 rfl rfl)
theorem dX2_next_95 : decode cX2_next 95 = .ok (.getfield 18, 3) := dk_180 0 18 (dk_at dksX2_next_4 1 rfl rfl)
theorem dX2_next_98 : decode cX2_next 98 = .ok (.aload_n 0, 1) := dk_42 (dk_at dksX2_next_4 4 rfl rfl)
theorem dX2_next_99 : decode cX2_next 99 = .ok (.getfield 40, 3) := dk_180 0 40 (dk_at dksX2_next_4 5 rfl rfl)
theorem dX2_next_102 : decode cX2_next 102 = .ok (.iload_n 1, 1) := dk_27 (dk_at dksX2_next_4 8 rfl rfl)
theorem dX2_next_103 : decode cX2_next 103 = .ok (.isub, 1) := dk_100 (dk_at dksX2_next_4 9 rfl rfl)
theorem dX2_next_104 : decode cX2_next 104 = .ok (.aload_n 0, 1) := dk_42 (dk_at dksX2_next_4 10 rfl rfl)
theorem dX2_next_105 : decode cX2_next 105 = .ok (.aload_n 0, 1) := dk_42 (dk_at dksX2_next_4 11 rfl rfl)
theorem dX2_next_106 : decode cX2_next 106 = .ok (.getfield 40, 3) := dk_180 0 40 (dk_at dksX2_next_4 12 rfl rfl)
theorem dX2_next_109 : decode cX2_next 109 = .ok (.invokevirtual 43, 3) := dk_182 0 43 (dk_at dksX2_next_4 15 rfl rfl)
theorem dX2_next_112 : decode cX2_next 112 = .ok (.i2c, 1) := dk_146 (dk_at dksX2_next_4 18 rfl rfl)
theorem dX2_next_113 : decode cX2_next 113 = .ok (.castore, 1) := dk_85 (dk_at dksX2_next_4 19 rfl rfl)
theorem dX2_next_114 : decode cX2_next 114 = .ok (.aload_n 0, 1) := dk_42 (dk_at dksX2_next_4 20 rfl rfl)
theorem dX2_next_115 : decode cX2_next 115 = .ok (.dup, 1) := dk_89 (dk_at dksX2_next_4 21 rfl rfl)
theorem dX2_next_116 : decode cX2_next 116 = .ok (.getfield 40, 3) := dk_180 0 40 (dk_at dksX2_next_5 0 rfl rfl)
theorem dX2_next_119 : decode cX2_next 119 = .ok (.iconst 1, 1) := dk_4 (dk_at dksX2_next_5 3 rfl rfl)
theorem dX2_next_120 : decode cX2_next 120 = .ok (.iadd, 1) := dk_96 (dk_at dksX2_next_5 4 rfl rfl)
theorem dX2_next_121 : decode cX2_next 121 = .ok (.putfield 40, 3) := dk_181 0 40 (dk_at dksX2_next_5 5 rfl rfl)
theorem dX2_next_124 : decode cX2_next 124 = .ok (.goto (-55), 3) := dk_167 255 201 (dk_at dksX2_next_5 8 rfl rfl)
theorem dX2_next_127 : decode cX2_next 127 = .ok (.aload_n 0, 1) := dk_42 (dk_at dksX2_next_5 11 rfl rfl)
theorem dX2_next_128 : decode cX2_next 128 = .ok (.aload_n 0, 1) := dk_42 (dk_at dksX2_next_5 12 rfl rfl)
theorem dX2_next_129 : decode cX2_next 129 = .ok (.getfield 40, 3) := dk_180 0 40 (dk_at dksX2_next_5 13 rfl rfl)
theorem dX2_next_132 : decode cX2_next 132 = .ok (.iload_n 1, 1) := dk_27 (dk_at dksX2_next_5 16 rfl rfl)
theorem dX2_next_133 : decode cX2_next 133 = .ok (.isub, 1) := dk_100 (dk_at dksX2_next_5 17 rfl rfl)
theorem dX2_next_134 : decode cX2_next 134 = .ok (.bipush 8, 2) := dk_16 8 (dk_at dksX2_next_5 18 rfl rfl)
theorem dX2_next_136 : decode cX2_next 136 = .ok (.if_icmp .le 7, 3) := dk_164 0 7 (dk_at dksX2_next_5 20 rfl rfl)
theorem dX2_next_139 : decode cX2_next 139 = .ok (.iconst 1, 1) := dk_4 (dk_at dksX2_next_5 23 rfl rfl)
theorem dX2_next_140 : decode cX2_next 140 = .ok (.goto 4, 3) := dk_167 0 4 (dk_at dksX2_next_6 0 rfl rfl)
theorem dX2_next_143 : decode cX2_next 143 = .ok (.iconst 2, 1) := dk_5 (dk_at dksX2_next_6 3 rfl rfl)
theorem dX2_next_144 : decode cX2_next 144 = .ok (.putfield 47, 3) := dk_181 0 47 (dk_at dksX2_next_6 4 rfl rfl)
theorem dX2_next_147 : decode cX2_next 147 = .ok (.aload_n 0, 1) := dk_42 (dk_at dksX2_next_6 7 rfl rfl)
theorem dX2_next_148 : decode cX2_next 148 = .ok (.aload_n 0, 1) := dk_42 (dk_at dksX2_next_6 8 rfl rfl)
theorem dX2_next_149 : decode cX2_next 149 = .ok (.getfield 47, 3) := dk_180 0 47 (dk_at dksX2_next_6 9 rfl rfl)
theorem dX2_next_152 : decode cX2_next 152 = .ok (.iconst 2, 1) := dk_5 (dk_at dksX2_next_6 12 rfl rfl)
theorem dX2_next_153 : decode cX2_next 153 = .ok (.if_icmp .ne 24, 3) := dk_160 0 24 (dk_at dksX2_next_6 13 rfl rfl)
theorem dX2_next_156 : decode cX2_next 156 = .ok (.new 54, 3) := dk_187 0 54 (dk_at dksX2_next_6 16 rfl rfl)
theorem dX2_next_159 : decode cX2_next 159 = .ok (.dup, 1) := dk_89 (dk_at dksX2_next_6 19 rfl rfl)
theorem dX2_next_160 : decode cX2_next 160 = .ok (.aload_n 0, 1) := dk_42 (dk_at dksX2_next_6 20 rfl rfl)
theorem dX2_next_161 : decode cX2_next 161 = .ok (.getfield 18, 3) := dk_180 0 18 (dk_at dksX2_next_6 21 rfl rfl)
theorem dX2_next_164 : decode cX2_next 164 = .ok (.iconst 0, 1) := dk_3 (dk_at dksX2_next_7 0 rfl rfl)
theorem dX2_next_165 : decode cX2_next 165 = .ok (.aload_n 0, 1) := dk_42 (dk_at dksX2_next_7 1 rfl rfl)
theorem dX2_next_166 : decode cX2_next 166 = .ok (.getfield 40, 3) := dk_180 0 40 (dk_at dksX2_next_7 2 rfl rfl)
theorem dX2_next_169 : decode cX2_next 169 = .ok (.iload_n 1, 1) := dk_27 (dk_at dksX2_next_7 5 rfl rfl)
theorem dX2_next_170 : decode cX2_next 170 = .ok (.isub, 1) := dk_100 (dk_at dksX2_next_7 6 rfl rfl)
theorem dX2_next_171 : decode cX2_next 171 = .ok (.invokespecial 56, 3) := dk_183 0 56 (dk_at dksX2_next_7 7 rfl rfl)
theorem dX2_next_174 : decode cX2_next 174 = .ok (.goto 5, 3) := dk_167 0 5 (dk_at dksX2_next_7 10 rfl rfl)
theorem dX2_next_177 : decode cX2_next 177 = .ok (.ldc 59, 2) := dk_18 59 (dk_at dksX2_next_7 13 rfl rfl)
theorem dX2_next_179 : decode cX2_next 179 = .ok (.putfield 61, 3) := dk_181 0 61 (dk_at dksX2_next_7 15 rfl rfl)
theorem dX2_next_182 : decode cX2_next 182 = .ok (.goto 117, 3) := dk_167 0 117 (dk_at dksX2_next_7 18 rfl rfl)
theorem dX2_next_185 : decode cX2_next 185 = .ok (.iload_n 2, 1) := dk_28 (dk_at dksX2_next_7 21 rfl rfl)
theorem dX2_next_186 : decode cX2_next 186 = .ok (.invokestatic 65, 3) := dk_184 0 65 (dk_at dksX2_next_8 0 rfl rfl)
theorem dX2_next_189 : decode cX2_next 189 = .ok (.ifCond .eq 95, 3) := dk_153 0 95 (dk_at dksX2_next_8 3 rfl rfl)
theorem dX2_next_192 : decode cX2_next 192 = .ok (.aload_n 0, 1) := dk_42 (dk_at dksX2_next_8 6 rfl rfl)
theorem dX2_next_193 : decode cX2_next 193 = .ok (.iconst 0, 1) := dk_3 (dk_at dksX2_next_8 7 rfl rfl)
theorem dX2_next_194 : decode cX2_next 194 = .ok (.putfield 68, 3) := dk_181 0 68 (dk_at dksX2_next_8 8 rfl rfl)
theorem dX2_next_197 : decode cX2_next 197 = .ok (.aload_n 0, 1) := dk_42 (dk_at dksX2_next_8 11 rfl rfl)
theorem dX2_next_198 : decode cX2_next 198 = .ok (.iload_n 1, 1) := dk_27 (dk_at dksX2_next_8 12 rfl rfl)
theorem dX2_next_199 : decode cX2_next 199 = .ok (.putfield 40, 3) := dk_181 0 40 (dk_at dksX2_next_8 13 rfl rfl)
theorem dX2_next_202 : decode cX2_next 202 = .ok (.aload_n 0, 1) := dk_42 (dk_at dksX2_next_8 16 rfl rfl)
theorem dX2_next_203 : decode cX2_next 203 = .ok (.aload_n 0, 1) := dk_42 (dk_at dksX2_next_8 17 rfl rfl)
theorem dX2_next_204 : decode cX2_next 204 = .ok (.getfield 40, 3) := dk_180 0 40 (dk_at dksX2_next_8 18 rfl rfl)
theorem dX2_next_207 : decode cX2_next 207 = .ok (.invokevirtual 43, 3) := dk_182 0 43 (dk_at dksX2_next_8 21 rfl rfl)
theorem dX2_next_210 : decode cX2_next 210 = .ok (.invokestatic 65, 3) := dk_184 0 65 (dk_at dksX2_next_9 0 rfl rfl)
theorem dX2_next_213 : decode cX2_next 213 = .ok (.ifCond .eq 49, 3) := dk_153 0 49 (dk_at dksX2_next_9 3 rfl rfl)
theorem dX2_next_216 : decode cX2_next 216 = .ok (.aload_n 0, 1) := dk_42 (dk_at dksX2_next_9 6 rfl rfl)
theorem dX2_next_217 : decode cX2_next 217 = .ok (.getfield 40, 3) := dk_180 0 40 (dk_at dksX2_next_9 7 rfl rfl)
theorem dX2_next_220 : decode cX2_next 220 = .ok (.iload_n 1, 1) := dk_27 (dk_at dksX2_next_9 10 rfl rfl)
theorem dX2_next_221 : decode cX2_next 221 = .ok (.isub, 1) := dk_100 (dk_at dksX2_next_9 11 rfl rfl)
theorem dX2_next_222 : decode cX2_next 222 = .ok (.iconst 3, 1) := dk_6 (dk_at dksX2_next_9 12 rfl rfl)
theorem dX2_next_223 : decode cX2_next 223 = .ok (.if_icmp .ge 26, 3) := dk_162 0 26 (dk_at dksX2_next_9 13 rfl rfl)
theorem dX2_next_226 : decode cX2_next 226 = .ok (.aload_n 0, 1) := dk_42 (dk_at dksX2_next_9 16 rfl rfl)
theorem dX2_next_227 : decode cX2_next 227 = .ok (.bipush 10, 2) := dk_16 10 (dk_at dksX2_next_9 17 rfl rfl)
theorem dX2_next_229 : decode cX2_next 229 = .ok (.aload_n 0, 1) := dk_42 (dk_at dksX2_next_9 19 rfl rfl)
theorem dX2_next_230 : decode cX2_next 230 = .ok (.getfield 68, 3) := dk_180 0 68 (dk_at dksX2_next_9 20 rfl rfl)
theorem dX2_next_233 : decode cX2_next 233 = .ok (.imul, 1) := dk_104 (dk_at dksX2_next_9 23 rfl rfl)
theorem dX2_next_234 : decode cX2_next 234 = .ok (.aload_n 0, 1) := dk_42 (dk_at dksX2_next_10 0 rfl rfl)
theorem dX2_next_235 : decode cX2_next 235 = .ok (.aload_n 0, 1) := dk_42 (dk_at dksX2_next_10 1 rfl rfl)
theorem dX2_next_236 : decode cX2_next 236 = .ok (.getfield 40, 3) := dk_180 0 40 (dk_at dksX2_next_10 2 rfl rfl)
theorem dX2_next_239 : decode cX2_next 239 = .ok (.invokevirtual 43, 3) := dk_182 0 43 (dk_at dksX2_next_10 5 rfl rfl)
theorem dX2_next_242 : decode cX2_next 242 = .ok (.iadd, 1) := dk_96 (dk_at dksX2_next_10 8 rfl rfl)
theorem dX2_next_243 : decode cX2_next 243 = .ok (.bipush 48, 2) := dk_16 48 (dk_at dksX2_next_10 9 rfl rfl)
theorem dX2_next_245 : decode cX2_next 245 = .ok (.isub, 1) := dk_100 (dk_at dksX2_next_10 11 rfl rfl)
theorem dX2_next_246 : decode cX2_next 246 = .ok (.putfield 68, 3) := dk_181 0 68 (dk_at dksX2_next_10 12 rfl rfl)
theorem dX2_next_249 : decode cX2_next 249 = .ok (.aload_n 0, 1) := dk_42 (dk_at dksX2_next_10 15 rfl rfl)
theorem dX2_next_250 : decode cX2_next 250 = .ok (.dup, 1) := dk_89 (dk_at dksX2_next_10 16 rfl rfl)
theorem dX2_next_251 : decode cX2_next 251 = .ok (.getfield 40, 3) := dk_180 0 40 (dk_at dksX2_next_10 17 rfl rfl)
theorem dX2_next_254 : decode cX2_next 254 = .ok (.iconst 1, 1) := dk_4 (dk_at dksX2_next_10 20 rfl rfl)
theorem dX2_next_255 : decode cX2_next 255 = .ok (.iadd, 1) := dk_96 (dk_at dksX2_next_10 21 rfl rfl)
theorem dX2_next_256 : decode cX2_next 256 = .ok (.putfield 40, 3) := dk_181 0 40 (dk_at dksX2_next_11 0 rfl rfl)
theorem dX2_next_259 : decode cX2_next 259 = .ok (.goto (-57), 3) := dk_167 255 199 (dk_at dksX2_next_11 3 rfl rfl)
theorem dX2_next_262 : decode cX2_next 262 = .ok (.aload_n 0, 1) := dk_42 (dk_at dksX2_next_11 6 rfl rfl)
theorem dX2_next_263 : decode cX2_next 263 = .ok (.aload_n 0, 1) := dk_42 (dk_at dksX2_next_11 7 rfl rfl)
theorem dX2_next_264 : decode cX2_next 264 = .ok (.getfield 40, 3) := dk_180 0 40 (dk_at dksX2_next_11 8 rfl rfl)
theorem dX2_next_267 : decode cX2_next 267 = .ok (.iload_n 1, 1) := dk_27 (dk_at dksX2_next_11 11 rfl rfl)
theorem dX2_next_268 : decode cX2_next 268 = .ok (.isub, 1) := dk_100 (dk_at dksX2_next_11 12 rfl rfl)
theorem dX2_next_269 : decode cX2_next 269 = .ok (.iconst 3, 1) := dk_6 (dk_at dksX2_next_11 13 rfl rfl)
theorem dX2_next_270 : decode cX2_next 270 = .ok (.if_icmp .le 7, 3) := dk_164 0 7 (dk_at dksX2_next_11 14 rfl rfl)
theorem dX2_next_273 : decode cX2_next 273 = .ok (.iconst 1, 1) := dk_4 (dk_at dksX2_next_11 17 rfl rfl)
theorem dX2_next_274 : decode cX2_next 274 = .ok (.goto 4, 3) := dk_167 0 4 (dk_at dksX2_next_11 18 rfl rfl)
theorem dX2_next_277 : decode cX2_next 277 = .ok (.iconst 3, 1) := dk_6 (dk_at dksX2_next_11 21 rfl rfl)
theorem dX2_next_278 : decode cX2_next 278 = .ok (.putfield 47, 3) := dk_181 0 47 (dk_at dksX2_next_12 0 rfl rfl)
theorem dX2_next_281 : decode cX2_next 281 = .ok (.goto 18, 3) := dk_167 0 18 (dk_at dksX2_next_12 3 rfl rfl)
theorem dX2_next_284 : decode cX2_next 284 = .ok (.aload_n 0, 1) := dk_42 (dk_at dksX2_next_12 6 rfl rfl)
theorem dX2_next_285 : decode cX2_next 285 = .ok (.iload_n 2, 1) := dk_28 (dk_at dksX2_next_12 7 rfl rfl)
theorem dX2_next_286 : decode cX2_next 286 = .ok (.bipush 59, 2) := dk_16 59 (dk_at dksX2_next_12 8 rfl rfl)
theorem dX2_next_288 : decode cX2_next 288 = .ok (.if_icmp .ne 7, 3) := dk_160 0 7 (dk_at dksX2_next_12 10 rfl rfl)
theorem dX2_next_291 : decode cX2_next 291 = .ok (.iload_n 2, 1) := dk_28 (dk_at dksX2_next_12 13 rfl rfl)
theorem dX2_next_292 : decode cX2_next 292 = .ok (.goto 4, 3) := dk_167 0 4 (dk_at dksX2_next_12 14 rfl rfl)
theorem dX2_next_295 : decode cX2_next 295 = .ok (.iconst 1, 1) := dk_4 (dk_at dksX2_next_12 17 rfl rfl)
theorem dX2_next_296 : decode cX2_next 296 = .ok (.putfield 47, 3) := dk_181 0 47 (dk_at dksX2_next_12 18 rfl rfl)
theorem dX2_next_299 : decode cX2_next 299 = .ok (.return_, 1) := dk_177 (dk_at dksX2_next_12 21 rfl rfl)
abbrev cX2_see : ByteArray := prog_11_method_3_code
def yX2_see : MethodName := ⟨RX2, "see", "(I)I"⟩
def dkwX2_see_0 : List UInt8 := [27, 42, 180, 0, 33, 162, 0, 16, 42, 180, 0, 22, 27, 51, 17, 0, 255, 126, 167, 0, 4, 2, 172]
abbrev dktX2_see_0 : List UInt8 := dkwX2_see_0 ++ []
theorem dksX2_see_0 : cX2_see.data.toList.drop 0 = dktX2_see_0 := by decide +kernel
theorem dX2_see_0 : decode cX2_see 0 = .ok (.iload_n 1, 1) := dk_27 (dk_at dksX2_see_0 0 rfl rfl)
theorem dX2_see_1 : decode cX2_see 1 = .ok (.aload_n 0, 1) := dk_42 (dk_at dksX2_see_0 1 rfl rfl)
theorem dX2_see_2 : decode cX2_see 2 = .ok (.getfield 33, 3) := dk_180 0 33 (dk_at dksX2_see_0 2 rfl rfl)
theorem dX2_see_5 : decode cX2_see 5 = .ok (.if_icmp .ge 16, 3) := dk_162 0 16 (dk_at dksX2_see_0 5 rfl rfl)
theorem dX2_see_8 : decode cX2_see 8 = .ok (.aload_n 0, 1) := dk_42 (dk_at dksX2_see_0 8 rfl rfl)
theorem dX2_see_9 : decode cX2_see 9 = .ok (.getfield 22, 3) := dk_180 0 22 (dk_at dksX2_see_0 9 rfl rfl)
theorem dX2_see_12 : decode cX2_see 12 = .ok (.iload_n 1, 1) := dk_27 (dk_at dksX2_see_0 12 rfl rfl)
theorem dX2_see_13 : decode cX2_see 13 = .ok (.baload, 1) := dk_51 (dk_at dksX2_see_0 13 rfl rfl)
theorem dX2_see_14 : decode cX2_see 14 = .ok (.sipush 255, 3) := dk_17 0 255 (dk_at dksX2_see_0 14 rfl rfl)
theorem dX2_see_17 : decode cX2_see 17 = .ok (.iand, 1) := dk_126 (dk_at dksX2_see_0 17 rfl rfl)
theorem dX2_see_18 : decode cX2_see 18 = .ok (.goto 4, 3) := dk_167 0 4 (dk_at dksX2_see_0 18 rfl rfl)
theorem dX2_see_21 : decode cX2_see 21 = .ok (.iconst (-1), 1) := dk_2 (dk_at dksX2_see_0 21 rfl rfl)
theorem dX2_see_22 : decode cX2_see 22 = .ok (.ireturn, 1) := dk_172 (dk_at dksX2_see_0 22 rfl rfl)
abbrev cX2_isSmall : ByteArray := prog_11_method_4_code
def yX2_isSmall : MethodName := ⟨RX2, "isSmall", "(I)Z"⟩
def dkwX2_isSmall_0 : List UInt8 := [26, 16, 97, 16, 122, 184, 0, 36, 172]
abbrev dktX2_isSmall_0 : List UInt8 := dkwX2_isSmall_0 ++ []
theorem dksX2_isSmall_0 : cX2_isSmall.data.toList.drop 0 = dktX2_isSmall_0 := by decide +kernel
theorem dX2_isSmall_0 : decode cX2_isSmall 0 = .ok (.iload_n 0, 1) := dk_26 (dk_at dksX2_isSmall_0 0 rfl rfl)
theorem dX2_isSmall_1 : decode cX2_isSmall 1 = .ok (.bipush 97, 2) := dk_16 97 (dk_at dksX2_isSmall_0 1 rfl rfl)
theorem dX2_isSmall_3 : decode cX2_isSmall 3 = .ok (.bipush 122, 2) := dk_16 122 (dk_at dksX2_isSmall_0 3 rfl rfl)
theorem dX2_isSmall_5 : decode cX2_isSmall 5 = .ok (.invokestatic 36, 3) := dk_184 0 36 (dk_at dksX2_isSmall_0 5 rfl rfl)
theorem dX2_isSmall_8 : decode cX2_isSmall 8 = .ok (.ireturn, 1) := dk_172 (dk_at dksX2_isSmall_0 8 rfl rfl)
abbrev cX2_isDigit : ByteArray := prog_11_method_5_code
def yX2_isDigit : MethodName := ⟨RX2, "isDigit", "(I)Z"⟩
def dkwX2_isDigit_0 : List UInt8 := [26, 16, 48, 16, 57, 184, 0, 36, 172]
abbrev dktX2_isDigit_0 : List UInt8 := dkwX2_isDigit_0 ++ []
theorem dksX2_isDigit_0 : cX2_isDigit.data.toList.drop 0 = dktX2_isDigit_0 := by decide +kernel
theorem dX2_isDigit_0 : decode cX2_isDigit 0 = .ok (.iload_n 0, 1) := dk_26 (dk_at dksX2_isDigit_0 0 rfl rfl)
theorem dX2_isDigit_1 : decode cX2_isDigit 1 = .ok (.bipush 48, 2) := dk_16 48 (dk_at dksX2_isDigit_0 1 rfl rfl)
theorem dX2_isDigit_3 : decode cX2_isDigit 3 = .ok (.bipush 57, 2) := dk_16 57 (dk_at dksX2_isDigit_0 3 rfl rfl)
theorem dX2_isDigit_5 : decode cX2_isDigit 5 = .ok (.invokestatic 36, 3) := dk_184 0 36 (dk_at dksX2_isDigit_0 5 rfl rfl)
theorem dX2_isDigit_8 : decode cX2_isDigit 8 = .ok (.ireturn, 1) := dk_172 (dk_at dksX2_isDigit_0 8 rfl rfl)
abbrev cX2_line : ByteArray := prog_11_method_18_code
def yX2_line : MethodName := ⟨RX2, "line", "()V"⟩
def dkwX2_line_11 : List UInt8 := [167, 0, 16, 42, 182, 0, 163, 167, 0, 9, 42, 4, 182, 0, 82, 191, 177]
abbrev dktX2_line_11 : List UInt8 := dkwX2_line_11 ++ []
def dkwX2_line_10 : List UInt8 := [182, 0, 151, 167, 0, 37, 42, 182, 0, 154, 167, 0, 30, 42, 182, 0, 157, 167, 0, 23, 42, 182, 0, 160]
abbrev dktX2_line_10 : List UInt8 := dkwX2_line_10 ++ dktX2_line_11
def dkwX2_line_9 : List UInt8 := [42, 182, 0, 142, 167, 0, 58, 42, 182, 0, 145, 167, 0, 51, 42, 182, 0, 148, 167, 0, 44, 42]
abbrev dktX2_line_9 : List UInt8 := dkwX2_line_9 ++ dktX2_line_10
def dkwX2_line_8 : List UInt8 := [170, 0, 0, 0, 0, 0, 0, 104, 0, 0, 0, 0, 0, 0, 0, 7, 0, 0, 0, 48, 0, 0, 0, 55, 0, 0, 0, 62, 0, 0, 0, 69, 0, 0, 0, 76, 0, 0, 0, 83, 0, 0, 0, 90, 0, 0, 0, 97]
abbrev dktX2_line_8 : List UInt8 := dkwX2_line_8 ++ dktX2_line_9
def dkwX2_line_7 : List UInt8 := [61, 167, 0, 15, 43, 18, 103, 182, 0, 71, 153, 0, 6, 16, 7, 61, 28]
abbrev dktX2_line_7 : List UInt8 := dkwX2_line_7 ++ dktX2_line_8
def dkwX2_line_6 : List UInt8 := [18, 99, 182, 0, 71, 153, 0, 35, 8, 61, 167, 0, 30, 43, 18, 101, 182, 0, 71, 153, 0, 21, 16, 6]
abbrev dktX2_line_6 : List UInt8 := dkwX2_line_6 ++ dktX2_line_7
def dkwX2_line_5 : List UInt8 := [153, 0, 63, 6, 61, 167, 0, 58, 43, 18, 97, 182, 0, 71, 153, 0, 49, 7, 61, 167, 0, 44, 43]
abbrev dktX2_line_5 : List UInt8 := dkwX2_line_5 ++ dktX2_line_6
def dkwX2_line_4 : List UInt8 := [61, 167, 0, 86, 43, 18, 94, 182, 0, 71, 153, 0, 77, 5, 61, 167, 0, 72, 43, 18, 95, 182, 0, 71]
abbrev dktX2_line_4 : List UInt8 := dkwX2_line_4 ++ dktX2_line_5
def dkwX2_line_3 : List UInt8 := [43, 18, 90, 182, 0, 71, 153, 0, 105, 3, 61, 167, 0, 100, 43, 18, 92, 182, 0, 71, 153, 0, 91, 4]
abbrev dktX2_line_3 : List UInt8 := dkwX2_line_3 ++ dktX2_line_4
def dkwX2_line_2 : List UInt8 := [171, 0, 0, 0, 0, 0, 186, 0, 0, 0, 8, 196, 227, 155, 85, 0, 0, 0, 145, 202, 213, 80, 3, 0, 0, 0, 131, 0, 52, 38, 74, 0, 0, 0, 117, 0, 53, 221, 189, 0, 0, 0, 159, 0, 54, 106, 146, 0, 0, 0, 75, 5, 237, 199, 32, 0, 0, 0, 89, 6, 66, 39, 26, 0, 0, 0, 174, 6, 194, 109, 173, 0, 0, 0, 103]
abbrev dktX2_line_2 : List UInt8 := dkwX2_line_2 ++ dktX2_line_3
def dkwX2_line_1 : List UInt8 := [182, 0, 86]
abbrev dktX2_line_1 : List UInt8 := dkwX2_line_1 ++ dktX2_line_2
def dkwX2_line_0 : List UInt8 := [42, 180, 0, 47, 5, 159, 0, 9, 42, 4, 182, 0, 82, 191, 42, 180, 0, 61, 76, 2, 61, 43]
abbrev dktX2_line_0 : List UInt8 := dkwX2_line_0 ++ dktX2_line_1
theorem dksX2_line_0 : cX2_line.data.toList.drop 0 = dktX2_line_0 := by decide +kernel
theorem dksX2_line_1 : cX2_line.data.toList.drop 22 = dktX2_line_1 := dk_seg dksX2_line_0 22 rfl rfl
theorem dksX2_line_2 : cX2_line.data.toList.drop 25 = dktX2_line_2 := dk_seg dksX2_line_1 3 rfl rfl
theorem dksX2_line_3 : cX2_line.data.toList.drop 100 = dktX2_line_3 := dk_seg dksX2_line_2 75 rfl rfl
theorem dksX2_line_4 : cX2_line.data.toList.drop 124 = dktX2_line_4 := dk_seg dksX2_line_3 24 rfl rfl
theorem dksX2_line_5 : cX2_line.data.toList.drop 148 = dktX2_line_5 := dk_seg dksX2_line_4 24 rfl rfl
theorem dksX2_line_6 : cX2_line.data.toList.drop 171 = dktX2_line_6 := dk_seg dksX2_line_5 23 rfl rfl
theorem dksX2_line_7 : cX2_line.data.toList.drop 195 = dktX2_line_7 := dk_seg dksX2_line_6 24 rfl rfl
theorem dksX2_line_8 : cX2_line.data.toList.drop 212 = dktX2_line_8 := dk_seg dksX2_line_7 17 rfl rfl
theorem dksX2_line_9 : cX2_line.data.toList.drop 260 = dktX2_line_9 := dk_seg dksX2_line_8 48 rfl rfl
theorem dksX2_line_10 : cX2_line.data.toList.drop 282 = dktX2_line_10 := dk_seg dksX2_line_9 22 rfl rfl
theorem dksX2_line_11 : cX2_line.data.toList.drop 306 = dktX2_line_11 := dk_seg dksX2_line_10 24 rfl rfl
theorem dX2_line_0 : decode cX2_line 0 = .ok (.aload_n 0, 1) := dk_42 (dk_at dksX2_line_0 0 rfl rfl)
theorem dX2_line_1 : decode cX2_line 1 = .ok (.getfield 47, 3) := dk_180 0 47 (dk_at dksX2_line_0 1 rfl rfl)
theorem dX2_line_4 : decode cX2_line 4 = .ok (.iconst 2, 1) := dk_5 (dk_at dksX2_line_0 4 rfl rfl)
theorem dX2_line_5 : decode cX2_line 5 = .ok (.if_icmp .eq 9, 3) := dk_159 0 9 (dk_at dksX2_line_0 5 rfl rfl)
theorem dX2_line_8 : decode cX2_line 8 = .ok (.aload_n 0, 1) := dk_42 (dk_at dksX2_line_0 8 rfl rfl)
theorem dX2_line_9 : decode cX2_line 9 = .ok (.iconst 1, 1) := dk_4 (dk_at dksX2_line_0 9 rfl rfl)
theorem dX2_line_10 : decode cX2_line 10 = .ok (.invokevirtual 82, 3) := dk_182 0 82 (dk_at dksX2_line_0 10 rfl rfl)
theorem dX2_line_13 : decode cX2_line 13 = .ok (.athrow, 1) := dk_191 (dk_at dksX2_line_0 13 rfl rfl)
theorem dX2_line_14 : decode cX2_line 14 = .ok (.aload_n 0, 1) := dk_42 (dk_at dksX2_line_0 14 rfl rfl)
theorem dX2_line_15 : decode cX2_line 15 = .ok (.getfield 61, 3) := dk_180 0 61 (dk_at dksX2_line_0 15 rfl rfl)
theorem dX2_line_18 : decode cX2_line 18 = .ok (.astore_n 1, 1) := dk_76 (dk_at dksX2_line_0 18 rfl rfl)
theorem dX2_line_19 : decode cX2_line 19 = .ok (.iconst (-1), 1) := dk_2 (dk_at dksX2_line_0 19 rfl rfl)
theorem dX2_line_20 : decode cX2_line 20 = .ok (.istore_n 2, 1) := dk_61 (dk_at dksX2_line_0 20 rfl rfl)
theorem dX2_line_21 : decode cX2_line 21 = .ok (.aload_n 1, 1) := dk_43 (dk_at dksX2_line_0 21 rfl rfl)
theorem dX2_line_22 : decode cX2_line 22 = .ok (.invokevirtual 86, 3) := dk_182 0 86 (dk_at dksX2_line_1 0 rfl rfl)
theorem dX2_line_25 : decode cX2_line 25 = .ok (.lookupswitch 186 #[(-991716523, 145), (-891990013, 131), (3417674, 117), (3530173, 159), (3566226, 75), (99469088, 89), (104998682, 174), (113405357, 103)], 75) := by decide +kernel
theorem dX2_line_100 : decode cX2_line 100 = .ok (.aload_n 1, 1) := dk_43 (dk_at dksX2_line_3 0 rfl rfl)
theorem dX2_line_101 : decode cX2_line 101 = .ok (.ldc 90, 2) := dk_18 90 (dk_at dksX2_line_3 1 rfl rfl)
theorem dX2_line_103 : decode cX2_line 103 = .ok (.invokevirtual 71, 3) := dk_182 0 71 (dk_at dksX2_line_3 3 rfl rfl)
theorem dX2_line_106 : decode cX2_line 106 = .ok (.ifCond .eq 105, 3) := dk_153 0 105 (dk_at dksX2_line_3 6 rfl rfl)
theorem dX2_line_109 : decode cX2_line 109 = .ok (.iconst 0, 1) := dk_3 (dk_at dksX2_line_3 9 rfl rfl)
theorem dX2_line_110 : decode cX2_line 110 = .ok (.istore_n 2, 1) := dk_61 (dk_at dksX2_line_3 10 rfl rfl)
theorem dX2_line_111 : decode cX2_line 111 = .ok (.goto 100, 3) := dk_167 0 100 (dk_at dksX2_line_3 11 rfl rfl)
theorem dX2_line_114 : decode cX2_line 114 = .ok (.aload_n 1, 1) := dk_43 (dk_at dksX2_line_3 14 rfl rfl)
theorem dX2_line_115 : decode cX2_line 115 = .ok (.ldc 92, 2) := dk_18 92 (dk_at dksX2_line_3 15 rfl rfl)
theorem dX2_line_117 : decode cX2_line 117 = .ok (.invokevirtual 71, 3) := dk_182 0 71 (dk_at dksX2_line_3 17 rfl rfl)
theorem dX2_line_120 : decode cX2_line 120 = .ok (.ifCond .eq 91, 3) := dk_153 0 91 (dk_at dksX2_line_3 20 rfl rfl)
theorem dX2_line_123 : decode cX2_line 123 = .ok (.iconst 1, 1) := dk_4 (dk_at dksX2_line_3 23 rfl rfl)
theorem dX2_line_124 : decode cX2_line 124 = .ok (.istore_n 2, 1) := dk_61 (dk_at dksX2_line_4 0 rfl rfl)
theorem dX2_line_125 : decode cX2_line 125 = .ok (.goto 86, 3) := dk_167 0 86 (dk_at dksX2_line_4 1 rfl rfl)
theorem dX2_line_128 : decode cX2_line 128 = .ok (.aload_n 1, 1) := dk_43 (dk_at dksX2_line_4 4 rfl rfl)
theorem dX2_line_129 : decode cX2_line 129 = .ok (.ldc 94, 2) := dk_18 94 (dk_at dksX2_line_4 5 rfl rfl)
theorem dX2_line_131 : decode cX2_line 131 = .ok (.invokevirtual 71, 3) := dk_182 0 71 (dk_at dksX2_line_4 7 rfl rfl)
theorem dX2_line_134 : decode cX2_line 134 = .ok (.ifCond .eq 77, 3) := dk_153 0 77 (dk_at dksX2_line_4 10 rfl rfl)
theorem dX2_line_137 : decode cX2_line 137 = .ok (.iconst 2, 1) := dk_5 (dk_at dksX2_line_4 13 rfl rfl)
theorem dX2_line_138 : decode cX2_line 138 = .ok (.istore_n 2, 1) := dk_61 (dk_at dksX2_line_4 14 rfl rfl)
theorem dX2_line_139 : decode cX2_line 139 = .ok (.goto 72, 3) := dk_167 0 72 (dk_at dksX2_line_4 15 rfl rfl)
theorem dX2_line_142 : decode cX2_line 142 = .ok (.aload_n 1, 1) := dk_43 (dk_at dksX2_line_4 18 rfl rfl)
theorem dX2_line_143 : decode cX2_line 143 = .ok (.ldc 95, 2) := dk_18 95 (dk_at dksX2_line_4 19 rfl rfl)
theorem dX2_line_145 : decode cX2_line 145 = .ok (.invokevirtual 71, 3) := dk_182 0 71 (dk_at dksX2_line_4 21 rfl rfl)
theorem dX2_line_148 : decode cX2_line 148 = .ok (.ifCond .eq 63, 3) := dk_153 0 63 (dk_at dksX2_line_5 0 rfl rfl)
theorem dX2_line_151 : decode cX2_line 151 = .ok (.iconst 3, 1) := dk_6 (dk_at dksX2_line_5 3 rfl rfl)
theorem dX2_line_152 : decode cX2_line 152 = .ok (.istore_n 2, 1) := dk_61 (dk_at dksX2_line_5 4 rfl rfl)
theorem dX2_line_153 : decode cX2_line 153 = .ok (.goto 58, 3) := dk_167 0 58 (dk_at dksX2_line_5 5 rfl rfl)
theorem dX2_line_156 : decode cX2_line 156 = .ok (.aload_n 1, 1) := dk_43 (dk_at dksX2_line_5 8 rfl rfl)
theorem dX2_line_157 : decode cX2_line 157 = .ok (.ldc 97, 2) := dk_18 97 (dk_at dksX2_line_5 9 rfl rfl)
theorem dX2_line_159 : decode cX2_line 159 = .ok (.invokevirtual 71, 3) := dk_182 0 71 (dk_at dksX2_line_5 11 rfl rfl)
theorem dX2_line_162 : decode cX2_line 162 = .ok (.ifCond .eq 49, 3) := dk_153 0 49 (dk_at dksX2_line_5 14 rfl rfl)
theorem dX2_line_165 : decode cX2_line 165 = .ok (.iconst 4, 1) := dk_7 (dk_at dksX2_line_5 17 rfl rfl)
theorem dX2_line_166 : decode cX2_line 166 = .ok (.istore_n 2, 1) := dk_61 (dk_at dksX2_line_5 18 rfl rfl)
theorem dX2_line_167 : decode cX2_line 167 = .ok (.goto 44, 3) := dk_167 0 44 (dk_at dksX2_line_5 19 rfl rfl)
theorem dX2_line_170 : decode cX2_line 170 = .ok (.aload_n 1, 1) := dk_43 (dk_at dksX2_line_5 22 rfl rfl)
theorem dX2_line_171 : decode cX2_line 171 = .ok (.ldc 99, 2) := dk_18 99 (dk_at dksX2_line_6 0 rfl rfl)
theorem dX2_line_173 : decode cX2_line 173 = .ok (.invokevirtual 71, 3) := dk_182 0 71 (dk_at dksX2_line_6 2 rfl rfl)
theorem dX2_line_176 : decode cX2_line 176 = .ok (.ifCond .eq 35, 3) := dk_153 0 35 (dk_at dksX2_line_6 5 rfl rfl)
theorem dX2_line_179 : decode cX2_line 179 = .ok (.iconst 5, 1) := dk_8 (dk_at dksX2_line_6 8 rfl rfl)
theorem dX2_line_180 : decode cX2_line 180 = .ok (.istore_n 2, 1) := dk_61 (dk_at dksX2_line_6 9 rfl rfl)
theorem dX2_line_181 : decode cX2_line 181 = .ok (.goto 30, 3) := dk_167 0 30 (dk_at dksX2_line_6 10 rfl rfl)
theorem dX2_line_184 : decode cX2_line 184 = .ok (.aload_n 1, 1) := dk_43 (dk_at dksX2_line_6 13 rfl rfl)
theorem dX2_line_185 : decode cX2_line 185 = .ok (.ldc 101, 2) := dk_18 101 (dk_at dksX2_line_6 14 rfl rfl)
theorem dX2_line_187 : decode cX2_line 187 = .ok (.invokevirtual 71, 3) := dk_182 0 71 (dk_at dksX2_line_6 16 rfl rfl)
theorem dX2_line_190 : decode cX2_line 190 = .ok (.ifCond .eq 21, 3) := dk_153 0 21 (dk_at dksX2_line_6 19 rfl rfl)
theorem dX2_line_193 : decode cX2_line 193 = .ok (.bipush 6, 2) := dk_16 6 (dk_at dksX2_line_6 22 rfl rfl)
theorem dX2_line_195 : decode cX2_line 195 = .ok (.istore_n 2, 1) := dk_61 (dk_at dksX2_line_7 0 rfl rfl)
theorem dX2_line_196 : decode cX2_line 196 = .ok (.goto 15, 3) := dk_167 0 15 (dk_at dksX2_line_7 1 rfl rfl)
theorem dX2_line_199 : decode cX2_line 199 = .ok (.aload_n 1, 1) := dk_43 (dk_at dksX2_line_7 4 rfl rfl)
theorem dX2_line_200 : decode cX2_line 200 = .ok (.ldc 103, 2) := dk_18 103 (dk_at dksX2_line_7 5 rfl rfl)
theorem dX2_line_202 : decode cX2_line 202 = .ok (.invokevirtual 71, 3) := dk_182 0 71 (dk_at dksX2_line_7 7 rfl rfl)
theorem dX2_line_205 : decode cX2_line 205 = .ok (.ifCond .eq 6, 3) := dk_153 0 6 (dk_at dksX2_line_7 10 rfl rfl)
theorem dX2_line_208 : decode cX2_line 208 = .ok (.bipush 7, 2) := dk_16 7 (dk_at dksX2_line_7 13 rfl rfl)
theorem dX2_line_210 : decode cX2_line 210 = .ok (.istore_n 2, 1) := dk_61 (dk_at dksX2_line_7 15 rfl rfl)
theorem dX2_line_211 : decode cX2_line 211 = .ok (.iload_n 2, 1) := dk_28 (dk_at dksX2_line_7 16 rfl rfl)
theorem dX2_line_212 : decode cX2_line 212 = .ok (.tableswitch 104 0 7 #[48, 55, 62, 69, 76, 83, 90, 97], 48) := by decide +kernel
theorem dX2_line_260 : decode cX2_line 260 = .ok (.aload_n 0, 1) := dk_42 (dk_at dksX2_line_9 0 rfl rfl)
theorem dX2_line_261 : decode cX2_line 261 = .ok (.invokevirtual 142, 3) := dk_182 0 142 (dk_at dksX2_line_9 1 rfl rfl)
theorem dX2_line_264 : decode cX2_line 264 = .ok (.goto 58, 3) := dk_167 0 58 (dk_at dksX2_line_9 4 rfl rfl)
theorem dX2_line_267 : decode cX2_line 267 = .ok (.aload_n 0, 1) := dk_42 (dk_at dksX2_line_9 7 rfl rfl)
theorem dX2_line_268 : decode cX2_line 268 = .ok (.invokevirtual 145, 3) := dk_182 0 145 (dk_at dksX2_line_9 8 rfl rfl)
theorem dX2_line_271 : decode cX2_line 271 = .ok (.goto 51, 3) := dk_167 0 51 (dk_at dksX2_line_9 11 rfl rfl)
theorem dX2_line_274 : decode cX2_line 274 = .ok (.aload_n 0, 1) := dk_42 (dk_at dksX2_line_9 14 rfl rfl)
theorem dX2_line_275 : decode cX2_line 275 = .ok (.invokevirtual 148, 3) := dk_182 0 148 (dk_at dksX2_line_9 15 rfl rfl)
theorem dX2_line_278 : decode cX2_line 278 = .ok (.goto 44, 3) := dk_167 0 44 (dk_at dksX2_line_9 18 rfl rfl)
theorem dX2_line_281 : decode cX2_line 281 = .ok (.aload_n 0, 1) := dk_42 (dk_at dksX2_line_9 21 rfl rfl)
theorem dX2_line_282 : decode cX2_line 282 = .ok (.invokevirtual 151, 3) := dk_182 0 151 (dk_at dksX2_line_10 0 rfl rfl)
theorem dX2_line_285 : decode cX2_line 285 = .ok (.goto 37, 3) := dk_167 0 37 (dk_at dksX2_line_10 3 rfl rfl)
theorem dX2_line_288 : decode cX2_line 288 = .ok (.aload_n 0, 1) := dk_42 (dk_at dksX2_line_10 6 rfl rfl)
theorem dX2_line_289 : decode cX2_line 289 = .ok (.invokevirtual 154, 3) := dk_182 0 154 (dk_at dksX2_line_10 7 rfl rfl)
theorem dX2_line_292 : decode cX2_line 292 = .ok (.goto 30, 3) := dk_167 0 30 (dk_at dksX2_line_10 10 rfl rfl)
theorem dX2_line_295 : decode cX2_line 295 = .ok (.aload_n 0, 1) := dk_42 (dk_at dksX2_line_10 13 rfl rfl)
theorem dX2_line_296 : decode cX2_line 296 = .ok (.invokevirtual 157, 3) := dk_182 0 157 (dk_at dksX2_line_10 14 rfl rfl)
theorem dX2_line_299 : decode cX2_line 299 = .ok (.goto 23, 3) := dk_167 0 23 (dk_at dksX2_line_10 17 rfl rfl)
theorem dX2_line_302 : decode cX2_line 302 = .ok (.aload_n 0, 1) := dk_42 (dk_at dksX2_line_10 20 rfl rfl)
theorem dX2_line_303 : decode cX2_line 303 = .ok (.invokevirtual 160, 3) := dk_182 0 160 (dk_at dksX2_line_10 21 rfl rfl)
theorem dX2_line_306 : decode cX2_line 306 = .ok (.goto 16, 3) := dk_167 0 16 (dk_at dksX2_line_11 0 rfl rfl)
theorem dX2_line_309 : decode cX2_line 309 = .ok (.aload_n 0, 1) := dk_42 (dk_at dksX2_line_11 3 rfl rfl)
theorem dX2_line_310 : decode cX2_line 310 = .ok (.invokevirtual 163, 3) := dk_182 0 163 (dk_at dksX2_line_11 4 rfl rfl)
theorem dX2_line_313 : decode cX2_line 313 = .ok (.goto 9, 3) := dk_167 0 9 (dk_at dksX2_line_11 7 rfl rfl)
theorem dX2_line_316 : decode cX2_line 316 = .ok (.aload_n 0, 1) := dk_42 (dk_at dksX2_line_11 10 rfl rfl)
theorem dX2_line_317 : decode cX2_line 317 = .ok (.iconst 1, 1) := dk_4 (dk_at dksX2_line_11 11 rfl rfl)
theorem dX2_line_318 : decode cX2_line 318 = .ok (.invokevirtual 82, 3) := dk_182 0 82 (dk_at dksX2_line_11 12 rfl rfl)
theorem dX2_line_321 : decode cX2_line 321 = .ok (.athrow, 1) := dk_191 (dk_at dksX2_line_11 15 rfl rfl)
theorem dX2_line_322 : decode cX2_line 322 = .ok (.return_, 1) := dk_177 (dk_at dksX2_line_11 16 rfl rfl)
abbrev cX2_fail : ByteArray := prog_11_method_2_code
def yX2_fail : MethodName := ⟨RX2, "fail", "(I)LWrongRoom$Refused;"⟩
def dkwX2_fail_0 : List UInt8 := [42, 180, 0, 12, 27, 42, 180, 0, 26, 182, 0, 30, 176]
abbrev dktX2_fail_0 : List UInt8 := dkwX2_fail_0 ++ []
theorem dksX2_fail_0 : cX2_fail.data.toList.drop 0 = dktX2_fail_0 := by decide +kernel
theorem dX2_fail_0 : decode cX2_fail 0 = .ok (.aload_n 0, 1) := dk_42 (dk_at dksX2_fail_0 0 rfl rfl)
theorem dX2_fail_1 : decode cX2_fail 1 = .ok (.getfield 12, 3) := dk_180 0 12 (dk_at dksX2_fail_0 1 rfl rfl)
theorem dX2_fail_4 : decode cX2_fail 4 = .ok (.iload_n 1, 1) := dk_27 (dk_at dksX2_fail_0 4 rfl rfl)
theorem dX2_fail_5 : decode cX2_fail 5 = .ok (.aload_n 0, 1) := dk_42 (dk_at dksX2_fail_0 5 rfl rfl)
theorem dX2_fail_6 : decode cX2_fail 6 = .ok (.getfield 26, 3) := dk_180 0 26 (dk_at dksX2_fail_0 6 rfl rfl)
theorem dX2_fail_9 : decode cX2_fail 9 = .ok (.invokevirtual 30, 3) := dk_182 0 30 (dk_at dksX2_fail_0 9 rfl rfl)
theorem dX2_fail_12 : decode cX2_fail 12 = .ok (.areturn, 1) := dk_176 (dk_at dksX2_fail_0 12 rfl rfl)
abbrev cX2_townLine : ByteArray := prog_11_method_19_code
def yX2_townLine : MethodName := ⟨RX2, "townLine", "()V"⟩
def dkwX2_townLine_2 : List UInt8 := [181, 0, 176, 42, 4, 181, 0, 131, 177]
abbrev dktX2_townLine_2 : List UInt8 := dkwX2_townLine_2 ++ []
def dkwX2_townLine_1 : List UInt8 := [4, 16, 9, 182, 0, 168, 181, 0, 172, 42, 180, 0, 108, 42, 18, 174, 3, 16, 9, 182, 0, 168]
abbrev dktX2_townLine_1 : List UInt8 := dkwX2_townLine_1 ++ dktX2_townLine_2
def dkwX2_townLine_0 : List UInt8 := [42, 180, 0, 131, 153, 0, 9, 42, 6, 182, 0, 82, 191, 42, 182, 0, 75, 42, 180, 0, 108, 42, 18, 166]
abbrev dktX2_townLine_0 : List UInt8 := dkwX2_townLine_0 ++ dktX2_townLine_1
theorem dksX2_townLine_0 : cX2_townLine.data.toList.drop 0 = dktX2_townLine_0 := by decide +kernel
theorem dksX2_townLine_1 : cX2_townLine.data.toList.drop 24 = dktX2_townLine_1 := dk_seg dksX2_townLine_0 24 rfl rfl
theorem dksX2_townLine_2 : cX2_townLine.data.toList.drop 46 = dktX2_townLine_2 := dk_seg dksX2_townLine_1 22 rfl rfl
theorem dX2_townLine_0 : decode cX2_townLine 0 = .ok (.aload_n 0, 1) := dk_42 (dk_at dksX2_townLine_0 0 rfl rfl)
theorem dX2_townLine_1 : decode cX2_townLine 1 = .ok (.getfield 131, 3) := dk_180 0 131 (dk_at dksX2_townLine_0 1 rfl rfl)
theorem dX2_townLine_4 : decode cX2_townLine 4 = .ok (.ifCond .eq 9, 3) := dk_153 0 9 (dk_at dksX2_townLine_0 4 rfl rfl)
theorem dX2_townLine_7 : decode cX2_townLine 7 = .ok (.aload_n 0, 1) := dk_42 (dk_at dksX2_townLine_0 7 rfl rfl)
theorem dX2_townLine_8 : decode cX2_townLine 8 = .ok (.iconst 3, 1) := dk_6 (dk_at dksX2_townLine_0 8 rfl rfl)
theorem dX2_townLine_9 : decode cX2_townLine 9 = .ok (.invokevirtual 82, 3) := dk_182 0 82 (dk_at dksX2_townLine_0 9 rfl rfl)
theorem dX2_townLine_12 : decode cX2_townLine 12 = .ok (.athrow, 1) := dk_191 (dk_at dksX2_townLine_0 12 rfl rfl)
theorem dX2_townLine_13 : decode cX2_townLine 13 = .ok (.aload_n 0, 1) := dk_42 (dk_at dksX2_townLine_0 13 rfl rfl)
theorem dX2_townLine_14 : decode cX2_townLine 14 = .ok (.invokevirtual 75, 3) := dk_182 0 75 (dk_at dksX2_townLine_0 14 rfl rfl)
theorem dX2_townLine_17 : decode cX2_townLine 17 = .ok (.aload_n 0, 1) := dk_42 (dk_at dksX2_townLine_0 17 rfl rfl)
theorem dX2_townLine_18 : decode cX2_townLine 18 = .ok (.getfield 108, 3) := dk_180 0 108 (dk_at dksX2_townLine_0 18 rfl rfl)
theorem dX2_townLine_21 : decode cX2_townLine 21 = .ok (.aload_n 0, 1) := dk_42 (dk_at dksX2_townLine_0 21 rfl rfl)
theorem dX2_townLine_22 : decode cX2_townLine 22 = .ok (.ldc 166, 2) := dk_18 166 (dk_at dksX2_townLine_0 22 rfl rfl)
theorem dX2_townLine_24 : decode cX2_townLine 24 = .ok (.iconst 1, 1) := dk_4 (dk_at dksX2_townLine_1 0 rfl rfl)
theorem dX2_townLine_25 : decode cX2_townLine 25 = .ok (.bipush 9, 2) := dk_16 9 (dk_at dksX2_townLine_1 1 rfl rfl)
theorem dX2_townLine_27 : decode cX2_townLine 27 = .ok (.invokevirtual 168, 3) := dk_182 0 168 (dk_at dksX2_townLine_1 3 rfl rfl)
theorem dX2_townLine_30 : decode cX2_townLine 30 = .ok (.putfield 172, 3) := dk_181 0 172 (dk_at dksX2_townLine_1 6 rfl rfl)
theorem dX2_townLine_33 : decode cX2_townLine 33 = .ok (.aload_n 0, 1) := dk_42 (dk_at dksX2_townLine_1 9 rfl rfl)
theorem dX2_townLine_34 : decode cX2_townLine 34 = .ok (.getfield 108, 3) := dk_180 0 108 (dk_at dksX2_townLine_1 10 rfl rfl)
theorem dX2_townLine_37 : decode cX2_townLine 37 = .ok (.aload_n 0, 1) := dk_42 (dk_at dksX2_townLine_1 13 rfl rfl)
theorem dX2_townLine_38 : decode cX2_townLine 38 = .ok (.ldc 174, 2) := dk_18 174 (dk_at dksX2_townLine_1 14 rfl rfl)
theorem dX2_townLine_40 : decode cX2_townLine 40 = .ok (.iconst 0, 1) := dk_3 (dk_at dksX2_townLine_1 16 rfl rfl)
theorem dX2_townLine_41 : decode cX2_townLine 41 = .ok (.bipush 9, 2) := dk_16 9 (dk_at dksX2_townLine_1 17 rfl rfl)
theorem dX2_townLine_43 : decode cX2_townLine 43 = .ok (.invokevirtual 168, 3) := dk_182 0 168 (dk_at dksX2_townLine_1 19 rfl rfl)
theorem dX2_townLine_46 : decode cX2_townLine 46 = .ok (.putfield 176, 3) := dk_181 0 176 (dk_at dksX2_townLine_2 0 rfl rfl)
theorem dX2_townLine_49 : decode cX2_townLine 49 = .ok (.aload_n 0, 1) := dk_42 (dk_at dksX2_townLine_2 3 rfl rfl)
theorem dX2_townLine_50 : decode cX2_townLine 50 = .ok (.iconst 1, 1) := dk_4 (dk_at dksX2_townLine_2 4 rfl rfl)
theorem dX2_townLine_51 : decode cX2_townLine 51 = .ok (.putfield 131, 3) := dk_181 0 131 (dk_at dksX2_townLine_2 5 rfl rfl)
theorem dX2_townLine_54 : decode cX2_townLine 54 = .ok (.return_, 1) := dk_177 (dk_at dksX2_townLine_2 8 rfl rfl)
abbrev cX2_after : ByteArray := prog_11_method_15_code
def yX2_after : MethodName := ⟨RX2, "after", "(Ljava/lang/String;II)I"⟩
def dkwX2_after_0 : List UInt8 := [42, 43, 182, 0, 123, 42, 28, 29, 182, 0, 127, 172]
abbrev dktX2_after_0 : List UInt8 := dkwX2_after_0 ++ []
theorem dksX2_after_0 : cX2_after.data.toList.drop 0 = dktX2_after_0 := by decide +kernel
theorem dX2_after_0 : decode cX2_after 0 = .ok (.aload_n 0, 1) := dk_42 (dk_at dksX2_after_0 0 rfl rfl)
theorem dX2_after_1 : decode cX2_after 1 = .ok (.aload_n 1, 1) := dk_43 (dk_at dksX2_after_0 1 rfl rfl)
theorem dX2_after_2 : decode cX2_after 2 = .ok (.invokevirtual 123, 3) := dk_182 0 123 (dk_at dksX2_after_0 2 rfl rfl)
theorem dX2_after_5 : decode cX2_after 5 = .ok (.aload_n 0, 1) := dk_42 (dk_at dksX2_after_0 5 rfl rfl)
theorem dX2_after_6 : decode cX2_after 6 = .ok (.iload_n 2, 1) := dk_28 (dk_at dksX2_after_0 6 rfl rfl)
theorem dX2_after_7 : decode cX2_after 7 = .ok (.iload_n 3, 1) := dk_29 (dk_at dksX2_after_0 7 rfl rfl)
theorem dX2_after_8 : decode cX2_after 8 = .ok (.invokevirtual 127, 3) := dk_182 0 127 (dk_at dksX2_after_0 8 rfl rfl)
theorem dX2_after_11 : decode cX2_after 11 = .ok (.ireturn, 1) := dk_172 (dk_at dksX2_after_0 11 rfl rfl)
abbrev cX2_must : ByteArray := prog_11_method_8_code
def yX2_must : MethodName := ⟨RX2, "must", "(Ljava/lang/String;)V"⟩
def dkwX2_must_0 : List UInt8 := [42, 43, 182, 0, 78, 154, 0, 9, 42, 4, 182, 0, 82, 191, 177]
abbrev dktX2_must_0 : List UInt8 := dkwX2_must_0 ++ []
theorem dksX2_must_0 : cX2_must.data.toList.drop 0 = dktX2_must_0 := by decide +kernel
theorem dX2_must_0 : decode cX2_must 0 = .ok (.aload_n 0, 1) := dk_42 (dk_at dksX2_must_0 0 rfl rfl)
theorem dX2_must_1 : decode cX2_must 1 = .ok (.aload_n 1, 1) := dk_43 (dk_at dksX2_must_0 1 rfl rfl)
theorem dX2_must_2 : decode cX2_must 2 = .ok (.invokevirtual 78, 3) := dk_182 0 78 (dk_at dksX2_must_0 2 rfl rfl)
theorem dX2_must_5 : decode cX2_must 5 = .ok (.ifCond .ne 9, 3) := dk_154 0 9 (dk_at dksX2_must_0 5 rfl rfl)
theorem dX2_must_8 : decode cX2_must 8 = .ok (.aload_n 0, 1) := dk_42 (dk_at dksX2_must_0 8 rfl rfl)
theorem dX2_must_9 : decode cX2_must 9 = .ok (.iconst 1, 1) := dk_4 (dk_at dksX2_must_0 9 rfl rfl)
theorem dX2_must_10 : decode cX2_must 10 = .ok (.invokevirtual 82, 3) := dk_182 0 82 (dk_at dksX2_must_0 10 rfl rfl)
theorem dX2_must_13 : decode cX2_must 13 = .ok (.athrow, 1) := dk_191 (dk_at dksX2_must_0 13 rfl rfl)
theorem dX2_must_14 : decode cX2_must 14 = .ok (.return_, 1) := dk_177 (dk_at dksX2_must_0 14 rfl rfl)
abbrev cX2_takes : ByteArray := prog_11_method_7_code
def yX2_takes : MethodName := ⟨RX2, "takes", "(Ljava/lang/String;)Z"⟩
def dkwX2_takes_1 : List UInt8 := [182, 0, 75, 4, 172]
abbrev dktX2_takes_1 : List UInt8 := dkwX2_takes_1 ++ []
def dkwX2_takes_0 : List UInt8 := [42, 180, 0, 47, 5, 160, 0, 14, 42, 180, 0, 61, 43, 182, 0, 71, 154, 0, 5, 3, 172, 42]
abbrev dktX2_takes_0 : List UInt8 := dkwX2_takes_0 ++ dktX2_takes_1
theorem dksX2_takes_0 : cX2_takes.data.toList.drop 0 = dktX2_takes_0 := by decide +kernel
theorem dksX2_takes_1 : cX2_takes.data.toList.drop 22 = dktX2_takes_1 := dk_seg dksX2_takes_0 22 rfl rfl
theorem dX2_takes_0 : decode cX2_takes 0 = .ok (.aload_n 0, 1) := dk_42 (dk_at dksX2_takes_0 0 rfl rfl)
theorem dX2_takes_1 : decode cX2_takes 1 = .ok (.getfield 47, 3) := dk_180 0 47 (dk_at dksX2_takes_0 1 rfl rfl)
theorem dX2_takes_4 : decode cX2_takes 4 = .ok (.iconst 2, 1) := dk_5 (dk_at dksX2_takes_0 4 rfl rfl)
theorem dX2_takes_5 : decode cX2_takes 5 = .ok (.if_icmp .ne 14, 3) := dk_160 0 14 (dk_at dksX2_takes_0 5 rfl rfl)
theorem dX2_takes_8 : decode cX2_takes 8 = .ok (.aload_n 0, 1) := dk_42 (dk_at dksX2_takes_0 8 rfl rfl)
theorem dX2_takes_9 : decode cX2_takes 9 = .ok (.getfield 61, 3) := dk_180 0 61 (dk_at dksX2_takes_0 9 rfl rfl)
theorem dX2_takes_12 : decode cX2_takes 12 = .ok (.aload_n 1, 1) := dk_43 (dk_at dksX2_takes_0 12 rfl rfl)
theorem dX2_takes_13 : decode cX2_takes 13 = .ok (.invokevirtual 71, 3) := dk_182 0 71 (dk_at dksX2_takes_0 13 rfl rfl)
theorem dX2_takes_16 : decode cX2_takes 16 = .ok (.ifCond .ne 5, 3) := dk_154 0 5 (dk_at dksX2_takes_0 16 rfl rfl)
theorem dX2_takes_19 : decode cX2_takes 19 = .ok (.iconst 0, 1) := dk_3 (dk_at dksX2_takes_0 19 rfl rfl)
theorem dX2_takes_20 : decode cX2_takes 20 = .ok (.ireturn, 1) := dk_172 (dk_at dksX2_takes_0 20 rfl rfl)
theorem dX2_takes_21 : decode cX2_takes 21 = .ok (.aload_n 0, 1) := dk_42 (dk_at dksX2_takes_0 21 rfl rfl)
theorem dX2_takes_22 : decode cX2_takes 22 = .ok (.invokevirtual 75, 3) := dk_182 0 75 (dk_at dksX2_takes_1 0 rfl rfl)
theorem dX2_takes_25 : decode cX2_takes 25 = .ok (.iconst 1, 1) := dk_4 (dk_at dksX2_takes_1 3 rfl rfl)
theorem dX2_takes_26 : decode cX2_takes 26 = .ok (.ireturn, 1) := dk_172 (dk_at dksX2_takes_1 4 rfl rfl)
abbrev cX2_number : ByteArray := prog_11_method_14_code
def yX2_number : MethodName := ⟨RX2, "number", "(II)I"⟩
def dkwX2_number_1 : List UInt8 := [154, 0, 9, 42, 7, 182, 0, 82, 191, 42, 180, 0, 68, 62, 42, 182, 0, 75, 29, 172]
abbrev dktX2_number_1 : List UInt8 := dkwX2_number_1 ++ []
def dkwX2_number_0 : List UInt8 := [42, 180, 0, 47, 6, 159, 0, 9, 42, 4, 182, 0, 82, 191, 42, 180, 0, 68, 27, 28, 184, 0, 36]
abbrev dktX2_number_0 : List UInt8 := dkwX2_number_0 ++ dktX2_number_1
theorem dksX2_number_0 : cX2_number.data.toList.drop 0 = dktX2_number_0 := by decide +kernel
theorem dksX2_number_1 : cX2_number.data.toList.drop 23 = dktX2_number_1 := dk_seg dksX2_number_0 23 rfl rfl
theorem dX2_number_0 : decode cX2_number 0 = .ok (.aload_n 0, 1) := dk_42 (dk_at dksX2_number_0 0 rfl rfl)
theorem dX2_number_1 : decode cX2_number 1 = .ok (.getfield 47, 3) := dk_180 0 47 (dk_at dksX2_number_0 1 rfl rfl)
theorem dX2_number_4 : decode cX2_number 4 = .ok (.iconst 3, 1) := dk_6 (dk_at dksX2_number_0 4 rfl rfl)
theorem dX2_number_5 : decode cX2_number 5 = .ok (.if_icmp .eq 9, 3) := dk_159 0 9 (dk_at dksX2_number_0 5 rfl rfl)
theorem dX2_number_8 : decode cX2_number 8 = .ok (.aload_n 0, 1) := dk_42 (dk_at dksX2_number_0 8 rfl rfl)
theorem dX2_number_9 : decode cX2_number 9 = .ok (.iconst 1, 1) := dk_4 (dk_at dksX2_number_0 9 rfl rfl)
theorem dX2_number_10 : decode cX2_number 10 = .ok (.invokevirtual 82, 3) := dk_182 0 82 (dk_at dksX2_number_0 10 rfl rfl)
theorem dX2_number_13 : decode cX2_number 13 = .ok (.athrow, 1) := dk_191 (dk_at dksX2_number_0 13 rfl rfl)
theorem dX2_number_14 : decode cX2_number 14 = .ok (.aload_n 0, 1) := dk_42 (dk_at dksX2_number_0 14 rfl rfl)
theorem dX2_number_15 : decode cX2_number 15 = .ok (.getfield 68, 3) := dk_180 0 68 (dk_at dksX2_number_0 15 rfl rfl)
theorem dX2_number_18 : decode cX2_number 18 = .ok (.iload_n 1, 1) := dk_27 (dk_at dksX2_number_0 18 rfl rfl)
theorem dX2_number_19 : decode cX2_number 19 = .ok (.iload_n 2, 1) := dk_28 (dk_at dksX2_number_0 19 rfl rfl)
theorem dX2_number_20 : decode cX2_number 20 = .ok (.invokestatic 36, 3) := dk_184 0 36 (dk_at dksX2_number_0 20 rfl rfl)
theorem dX2_number_23 : decode cX2_number 23 = .ok (.ifCond .ne 9, 3) := dk_154 0 9 (dk_at dksX2_number_1 0 rfl rfl)
theorem dX2_number_26 : decode cX2_number 26 = .ok (.aload_n 0, 1) := dk_42 (dk_at dksX2_number_1 3 rfl rfl)
theorem dX2_number_27 : decode cX2_number 27 = .ok (.iconst 4, 1) := dk_7 (dk_at dksX2_number_1 4 rfl rfl)
theorem dX2_number_28 : decode cX2_number 28 = .ok (.invokevirtual 82, 3) := dk_182 0 82 (dk_at dksX2_number_1 5 rfl rfl)
theorem dX2_number_31 : decode cX2_number 31 = .ok (.athrow, 1) := dk_191 (dk_at dksX2_number_1 8 rfl rfl)
theorem dX2_number_32 : decode cX2_number 32 = .ok (.aload_n 0, 1) := dk_42 (dk_at dksX2_number_1 9 rfl rfl)
theorem dX2_number_33 : decode cX2_number 33 = .ok (.getfield 68, 3) := dk_180 0 68 (dk_at dksX2_number_1 10 rfl rfl)
theorem dX2_number_36 : decode cX2_number 36 = .ok (.istore_n 3, 1) := dk_62 (dk_at dksX2_number_1 13 rfl rfl)
theorem dX2_number_37 : decode cX2_number 37 = .ok (.aload_n 0, 1) := dk_42 (dk_at dksX2_number_1 14 rfl rfl)
theorem dX2_number_38 : decode cX2_number 38 = .ok (.invokevirtual 75, 3) := dk_182 0 75 (dk_at dksX2_number_1 15 rfl rfl)
theorem dX2_number_41 : decode cX2_number 41 = .ok (.iload_n 3, 1) := dk_29 (dk_at dksX2_number_1 18 rfl rfl)
theorem dX2_number_42 : decode cX2_number 42 = .ok (.ireturn, 1) := dk_172 (dk_at dksX2_number_1 19 rfl rfl)
abbrev cX2_houseLine : ByteArray := prog_11_method_20_code
def yX2_houseLine : MethodName := ⟨RX2, "houseLine", "()V"⟩
def dkwX2_houseLine_5 : List UInt8 := [96, 181, 0, 139, 177]
abbrev dktX2_houseLine_5 : List UInt8 := dkwX2_houseLine_5 ++ []
def dkwX2_houseLine_4 : List UInt8 := [180, 0, 108, 180, 0, 209, 42, 180, 0, 108, 180, 0, 139, 43, 83, 42, 180, 0, 108, 89, 180, 0, 139, 4]
abbrev dktX2_houseLine_4 : List UInt8 := dkwX2_houseLine_4 ++ dktX2_houseLine_5
def dkwX2_houseLine_3 : List UInt8 := [17, 3, 231, 182, 0, 168, 181, 0, 199, 42, 18, 201, 182, 0, 123, 43, 42, 182, 0, 203, 181, 0, 206, 42]
abbrev dktX2_houseLine_3 : List UInt8 := dkwX2_houseLine_3 ++ dktX2_houseLine_4
def dkwX2_houseLine_2 : List UInt8 := [182, 0, 168, 181, 0, 191, 43, 42, 18, 193, 4, 16, 99, 182, 0, 168, 181, 0, 195, 43, 42, 18, 197, 3]
abbrev dktX2_houseLine_2 : List UInt8 := dkwX2_houseLine_2 ++ dktX2_houseLine_3
def dkwX2_houseLine_1 : List UInt8 := [89, 42, 182, 0, 182, 42, 180, 0, 108, 180, 0, 139, 183, 0, 186, 76, 43, 42, 18, 189, 4, 16, 9]
abbrev dktX2_houseLine_1 : List UInt8 := dkwX2_houseLine_1 ++ dktX2_houseLine_2
def dkwX2_houseLine_0 : List UInt8 := [42, 42, 180, 0, 108, 180, 0, 139, 16, 7, 162, 0, 7, 4, 167, 0, 4, 3, 182, 0, 178, 187, 0, 117]
abbrev dktX2_houseLine_0 : List UInt8 := dkwX2_houseLine_0 ++ dktX2_houseLine_1
theorem dksX2_houseLine_0 : cX2_houseLine.data.toList.drop 0 = dktX2_houseLine_0 := by decide +kernel
theorem dksX2_houseLine_1 : cX2_houseLine.data.toList.drop 24 = dktX2_houseLine_1 := dk_seg dksX2_houseLine_0 24 rfl rfl
theorem dksX2_houseLine_2 : cX2_houseLine.data.toList.drop 47 = dktX2_houseLine_2 := dk_seg dksX2_houseLine_1 23 rfl rfl
theorem dksX2_houseLine_3 : cX2_houseLine.data.toList.drop 71 = dktX2_houseLine_3 := dk_seg dksX2_houseLine_2 24 rfl rfl
theorem dksX2_houseLine_4 : cX2_houseLine.data.toList.drop 95 = dktX2_houseLine_4 := dk_seg dksX2_houseLine_3 24 rfl rfl
theorem dksX2_houseLine_5 : cX2_houseLine.data.toList.drop 119 = dktX2_houseLine_5 := dk_seg dksX2_houseLine_4 24 rfl rfl
theorem dX2_houseLine_0 : decode cX2_houseLine 0 = .ok (.aload_n 0, 1) := dk_42 (dk_at dksX2_houseLine_0 0 rfl rfl)
theorem dX2_houseLine_1 : decode cX2_houseLine 1 = .ok (.aload_n 0, 1) := dk_42 (dk_at dksX2_houseLine_0 1 rfl rfl)
theorem dX2_houseLine_2 : decode cX2_houseLine 2 = .ok (.getfield 108, 3) := dk_180 0 108 (dk_at dksX2_houseLine_0 2 rfl rfl)
theorem dX2_houseLine_5 : decode cX2_houseLine 5 = .ok (.getfield 139, 3) := dk_180 0 139 (dk_at dksX2_houseLine_0 5 rfl rfl)
theorem dX2_houseLine_8 : decode cX2_houseLine 8 = .ok (.bipush 7, 2) := dk_16 7 (dk_at dksX2_houseLine_0 8 rfl rfl)
theorem dX2_houseLine_10 : decode cX2_houseLine 10 = .ok (.if_icmp .ge 7, 3) := dk_162 0 7 (dk_at dksX2_houseLine_0 10 rfl rfl)
theorem dX2_houseLine_13 : decode cX2_houseLine 13 = .ok (.iconst 1, 1) := dk_4 (dk_at dksX2_houseLine_0 13 rfl rfl)
theorem dX2_houseLine_14 : decode cX2_houseLine 14 = .ok (.goto 4, 3) := dk_167 0 4 (dk_at dksX2_houseLine_0 14 rfl rfl)
theorem dX2_houseLine_17 : decode cX2_houseLine 17 = .ok (.iconst 0, 1) := dk_3 (dk_at dksX2_houseLine_0 17 rfl rfl)
theorem dX2_houseLine_18 : decode cX2_houseLine 18 = .ok (.invokevirtual 178, 3) := dk_182 0 178 (dk_at dksX2_houseLine_0 18 rfl rfl)
theorem dX2_houseLine_21 : decode cX2_houseLine 21 = .ok (.new 117, 3) := dk_187 0 117 (dk_at dksX2_houseLine_0 21 rfl rfl)
theorem dX2_houseLine_24 : decode cX2_houseLine 24 = .ok (.dup, 1) := dk_89 (dk_at dksX2_houseLine_1 0 rfl rfl)
theorem dX2_houseLine_25 : decode cX2_houseLine 25 = .ok (.aload_n 0, 1) := dk_42 (dk_at dksX2_houseLine_1 1 rfl rfl)
theorem dX2_houseLine_26 : decode cX2_houseLine 26 = .ok (.invokevirtual 182, 3) := dk_182 0 182 (dk_at dksX2_houseLine_1 2 rfl rfl)
theorem dX2_houseLine_29 : decode cX2_houseLine 29 = .ok (.aload_n 0, 1) := dk_42 (dk_at dksX2_houseLine_1 5 rfl rfl)
theorem dX2_houseLine_30 : decode cX2_houseLine 30 = .ok (.getfield 108, 3) := dk_180 0 108 (dk_at dksX2_houseLine_1 6 rfl rfl)
theorem dX2_houseLine_33 : decode cX2_houseLine 33 = .ok (.getfield 139, 3) := dk_180 0 139 (dk_at dksX2_houseLine_1 9 rfl rfl)
theorem dX2_houseLine_36 : decode cX2_houseLine 36 = .ok (.invokespecial 186, 3) := dk_183 0 186 (dk_at dksX2_houseLine_1 12 rfl rfl)
theorem dX2_houseLine_39 : decode cX2_houseLine 39 = .ok (.astore_n 1, 1) := dk_76 (dk_at dksX2_houseLine_1 15 rfl rfl)
theorem dX2_houseLine_40 : decode cX2_houseLine 40 = .ok (.aload_n 1, 1) := dk_43 (dk_at dksX2_houseLine_1 16 rfl rfl)
theorem dX2_houseLine_41 : decode cX2_houseLine 41 = .ok (.aload_n 0, 1) := dk_42 (dk_at dksX2_houseLine_1 17 rfl rfl)
theorem dX2_houseLine_42 : decode cX2_houseLine 42 = .ok (.ldc 189, 2) := dk_18 189 (dk_at dksX2_houseLine_1 18 rfl rfl)
theorem dX2_houseLine_44 : decode cX2_houseLine 44 = .ok (.iconst 1, 1) := dk_4 (dk_at dksX2_houseLine_1 20 rfl rfl)
theorem dX2_houseLine_45 : decode cX2_houseLine 45 = .ok (.bipush 9, 2) := dk_16 9 (dk_at dksX2_houseLine_1 21 rfl rfl)
theorem dX2_houseLine_47 : decode cX2_houseLine 47 = .ok (.invokevirtual 168, 3) := dk_182 0 168 (dk_at dksX2_houseLine_2 0 rfl rfl)
theorem dX2_houseLine_50 : decode cX2_houseLine 50 = .ok (.putfield 191, 3) := dk_181 0 191 (dk_at dksX2_houseLine_2 3 rfl rfl)
theorem dX2_houseLine_53 : decode cX2_houseLine 53 = .ok (.aload_n 1, 1) := dk_43 (dk_at dksX2_houseLine_2 6 rfl rfl)
theorem dX2_houseLine_54 : decode cX2_houseLine 54 = .ok (.aload_n 0, 1) := dk_42 (dk_at dksX2_houseLine_2 7 rfl rfl)
theorem dX2_houseLine_55 : decode cX2_houseLine 55 = .ok (.ldc 193, 2) := dk_18 193 (dk_at dksX2_houseLine_2 8 rfl rfl)
theorem dX2_houseLine_57 : decode cX2_houseLine 57 = .ok (.iconst 1, 1) := dk_4 (dk_at dksX2_houseLine_2 10 rfl rfl)
theorem dX2_houseLine_58 : decode cX2_houseLine 58 = .ok (.bipush 99, 2) := dk_16 99 (dk_at dksX2_houseLine_2 11 rfl rfl)
theorem dX2_houseLine_60 : decode cX2_houseLine 60 = .ok (.invokevirtual 168, 3) := dk_182 0 168 (dk_at dksX2_houseLine_2 13 rfl rfl)
theorem dX2_houseLine_63 : decode cX2_houseLine 63 = .ok (.putfield 195, 3) := dk_181 0 195 (dk_at dksX2_houseLine_2 16 rfl rfl)
theorem dX2_houseLine_66 : decode cX2_houseLine 66 = .ok (.aload_n 1, 1) := dk_43 (dk_at dksX2_houseLine_2 19 rfl rfl)
theorem dX2_houseLine_67 : decode cX2_houseLine 67 = .ok (.aload_n 0, 1) := dk_42 (dk_at dksX2_houseLine_2 20 rfl rfl)
theorem dX2_houseLine_68 : decode cX2_houseLine 68 = .ok (.ldc 197, 2) := dk_18 197 (dk_at dksX2_houseLine_2 21 rfl rfl)
theorem dX2_houseLine_70 : decode cX2_houseLine 70 = .ok (.iconst 0, 1) := dk_3 (dk_at dksX2_houseLine_2 23 rfl rfl)
theorem dX2_houseLine_71 : decode cX2_houseLine 71 = .ok (.sipush 999, 3) := dk_17 3 231 (dk_at dksX2_houseLine_3 0 rfl rfl)
theorem dX2_houseLine_74 : decode cX2_houseLine 74 = .ok (.invokevirtual 168, 3) := dk_182 0 168 (dk_at dksX2_houseLine_3 3 rfl rfl)
theorem dX2_houseLine_77 : decode cX2_houseLine 77 = .ok (.putfield 199, 3) := dk_181 0 199 (dk_at dksX2_houseLine_3 6 rfl rfl)
theorem dX2_houseLine_80 : decode cX2_houseLine 80 = .ok (.aload_n 0, 1) := dk_42 (dk_at dksX2_houseLine_3 9 rfl rfl)
theorem dX2_houseLine_81 : decode cX2_houseLine 81 = .ok (.ldc 201, 2) := dk_18 201 (dk_at dksX2_houseLine_3 10 rfl rfl)
theorem dX2_houseLine_83 : decode cX2_houseLine 83 = .ok (.invokevirtual 123, 3) := dk_182 0 123 (dk_at dksX2_houseLine_3 12 rfl rfl)
theorem dX2_houseLine_86 : decode cX2_houseLine 86 = .ok (.aload_n 1, 1) := dk_43 (dk_at dksX2_houseLine_3 15 rfl rfl)
theorem dX2_houseLine_87 : decode cX2_houseLine 87 = .ok (.aload_n 0, 1) := dk_42 (dk_at dksX2_houseLine_3 16 rfl rfl)
theorem dX2_houseLine_88 : decode cX2_houseLine 88 = .ok (.invokevirtual 203, 3) := dk_182 0 203 (dk_at dksX2_houseLine_3 17 rfl rfl)
theorem dX2_houseLine_91 : decode cX2_houseLine 91 = .ok (.putfield 206, 3) := dk_181 0 206 (dk_at dksX2_houseLine_3 20 rfl rfl)
theorem dX2_houseLine_94 : decode cX2_houseLine 94 = .ok (.aload_n 0, 1) := dk_42 (dk_at dksX2_houseLine_3 23 rfl rfl)
theorem dX2_houseLine_95 : decode cX2_houseLine 95 = .ok (.getfield 108, 3) := dk_180 0 108 (dk_at dksX2_houseLine_4 0 rfl rfl)
theorem dX2_houseLine_98 : decode cX2_houseLine 98 = .ok (.getfield 209, 3) := dk_180 0 209 (dk_at dksX2_houseLine_4 3 rfl rfl)
theorem dX2_houseLine_101 : decode cX2_houseLine 101 = .ok (.aload_n 0, 1) := dk_42 (dk_at dksX2_houseLine_4 6 rfl rfl)
theorem dX2_houseLine_102 : decode cX2_houseLine 102 = .ok (.getfield 108, 3) := dk_180 0 108 (dk_at dksX2_houseLine_4 7 rfl rfl)
theorem dX2_houseLine_105 : decode cX2_houseLine 105 = .ok (.getfield 139, 3) := dk_180 0 139 (dk_at dksX2_houseLine_4 10 rfl rfl)
theorem dX2_houseLine_108 : decode cX2_houseLine 108 = .ok (.aload_n 1, 1) := dk_43 (dk_at dksX2_houseLine_4 13 rfl rfl)
theorem dX2_houseLine_109 : decode cX2_houseLine 109 = .ok (.aastore, 1) := dk_83 (dk_at dksX2_houseLine_4 14 rfl rfl)
theorem dX2_houseLine_110 : decode cX2_houseLine 110 = .ok (.aload_n 0, 1) := dk_42 (dk_at dksX2_houseLine_4 15 rfl rfl)
theorem dX2_houseLine_111 : decode cX2_houseLine 111 = .ok (.getfield 108, 3) := dk_180 0 108 (dk_at dksX2_houseLine_4 16 rfl rfl)
theorem dX2_houseLine_114 : decode cX2_houseLine 114 = .ok (.dup, 1) := dk_89 (dk_at dksX2_houseLine_4 19 rfl rfl)
theorem dX2_houseLine_115 : decode cX2_houseLine 115 = .ok (.getfield 139, 3) := dk_180 0 139 (dk_at dksX2_houseLine_4 20 rfl rfl)
theorem dX2_houseLine_118 : decode cX2_houseLine 118 = .ok (.iconst 1, 1) := dk_4 (dk_at dksX2_houseLine_4 23 rfl rfl)
theorem dX2_houseLine_119 : decode cX2_houseLine 119 = .ok (.iadd, 1) := dk_96 (dk_at dksX2_houseLine_5 0 rfl rfl)
theorem dX2_houseLine_120 : decode cX2_houseLine 120 = .ok (.putfield 139, 3) := dk_181 0 139 (dk_at dksX2_houseLine_5 1 rfl rfl)
theorem dX2_houseLine_123 : decode cX2_houseLine 123 = .ok (.return_, 1) := dk_177 (dk_at dksX2_houseLine_5 4 rfl rfl)
abbrev cX2_begins : ByteArray := prog_11_method_16_code
def yX2_begins : MethodName := ⟨RX2, "begins", "(Z)V"⟩
def dkwX2_begins_1 : List UInt8 := [42, 182, 0, 75, 177]
abbrev dktX2_begins_1 : List UInt8 := dkwX2_begins_1 ++ []
def dkwX2_begins_0 : List UInt8 := [27, 154, 0, 9, 42, 8, 182, 0, 82, 191, 42, 180, 0, 131, 154, 0, 10, 42, 16, 6, 182, 0, 82, 191]
abbrev dktX2_begins_0 : List UInt8 := dkwX2_begins_0 ++ dktX2_begins_1
theorem dksX2_begins_0 : cX2_begins.data.toList.drop 0 = dktX2_begins_0 := by decide +kernel
theorem dksX2_begins_1 : cX2_begins.data.toList.drop 24 = dktX2_begins_1 := dk_seg dksX2_begins_0 24 rfl rfl
theorem dX2_begins_0 : decode cX2_begins 0 = .ok (.iload_n 1, 1) := dk_27 (dk_at dksX2_begins_0 0 rfl rfl)
theorem dX2_begins_1 : decode cX2_begins 1 = .ok (.ifCond .ne 9, 3) := dk_154 0 9 (dk_at dksX2_begins_0 1 rfl rfl)
theorem dX2_begins_4 : decode cX2_begins 4 = .ok (.aload_n 0, 1) := dk_42 (dk_at dksX2_begins_0 4 rfl rfl)
theorem dX2_begins_5 : decode cX2_begins 5 = .ok (.iconst 5, 1) := dk_8 (dk_at dksX2_begins_0 5 rfl rfl)
theorem dX2_begins_6 : decode cX2_begins 6 = .ok (.invokevirtual 82, 3) := dk_182 0 82 (dk_at dksX2_begins_0 6 rfl rfl)
theorem dX2_begins_9 : decode cX2_begins 9 = .ok (.athrow, 1) := dk_191 (dk_at dksX2_begins_0 9 rfl rfl)
theorem dX2_begins_10 : decode cX2_begins 10 = .ok (.aload_n 0, 1) := dk_42 (dk_at dksX2_begins_0 10 rfl rfl)
theorem dX2_begins_11 : decode cX2_begins 11 = .ok (.getfield 131, 3) := dk_180 0 131 (dk_at dksX2_begins_0 11 rfl rfl)
theorem dX2_begins_14 : decode cX2_begins 14 = .ok (.ifCond .ne 10, 3) := dk_154 0 10 (dk_at dksX2_begins_0 14 rfl rfl)
theorem dX2_begins_17 : decode cX2_begins 17 = .ok (.aload_n 0, 1) := dk_42 (dk_at dksX2_begins_0 17 rfl rfl)
theorem dX2_begins_18 : decode cX2_begins 18 = .ok (.bipush 6, 2) := dk_16 6 (dk_at dksX2_begins_0 18 rfl rfl)
theorem dX2_begins_20 : decode cX2_begins 20 = .ok (.invokevirtual 82, 3) := dk_182 0 82 (dk_at dksX2_begins_0 20 rfl rfl)
theorem dX2_begins_23 : decode cX2_begins 23 = .ok (.athrow, 1) := dk_191 (dk_at dksX2_begins_0 23 rfl rfl)
theorem dX2_begins_24 : decode cX2_begins 24 = .ok (.aload_n 0, 1) := dk_42 (dk_at dksX2_begins_1 0 rfl rfl)
theorem dX2_begins_25 : decode cX2_begins 25 = .ok (.invokevirtual 75, 3) := dk_182 0 75 (dk_at dksX2_begins_1 1 rfl rfl)
theorem dX2_begins_28 : decode cX2_begins 28 = .ok (.return_, 1) := dk_177 (dk_at dksX2_begins_1 4 rfl rfl)
abbrev cX2_newName : ByteArray := prog_11_method_10_code
def yX2_newName : MethodName := ⟨RX2, "newName", "()Ljava/lang/String;"⟩
def dkwX2_newName_1 : List UInt8 := [42, 180, 0, 61, 76, 42, 182, 0, 75, 43, 176]
abbrev dktX2_newName_1 : List UInt8 := dkwX2_newName_1 ++ []
def dkwX2_newName_0 : List UInt8 := [42, 182, 0, 105, 42, 180, 0, 108, 42, 180, 0, 61, 182, 0, 111, 198, 0, 9, 42, 6, 182, 0, 82, 191]
abbrev dktX2_newName_0 : List UInt8 := dkwX2_newName_0 ++ dktX2_newName_1
theorem dksX2_newName_0 : cX2_newName.data.toList.drop 0 = dktX2_newName_0 := by decide +kernel
theorem dksX2_newName_1 : cX2_newName.data.toList.drop 24 = dktX2_newName_1 := dk_seg dksX2_newName_0 24 rfl rfl
theorem dX2_newName_0 : decode cX2_newName 0 = .ok (.aload_n 0, 1) := dk_42 (dk_at dksX2_newName_0 0 rfl rfl)
theorem dX2_newName_1 : decode cX2_newName 1 = .ok (.invokevirtual 105, 3) := dk_182 0 105 (dk_at dksX2_newName_0 1 rfl rfl)
theorem dX2_newName_4 : decode cX2_newName 4 = .ok (.aload_n 0, 1) := dk_42 (dk_at dksX2_newName_0 4 rfl rfl)
theorem dX2_newName_5 : decode cX2_newName 5 = .ok (.getfield 108, 3) := dk_180 0 108 (dk_at dksX2_newName_0 5 rfl rfl)
theorem dX2_newName_8 : decode cX2_newName 8 = .ok (.aload_n 0, 1) := dk_42 (dk_at dksX2_newName_0 8 rfl rfl)
theorem dX2_newName_9 : decode cX2_newName 9 = .ok (.getfield 61, 3) := dk_180 0 61 (dk_at dksX2_newName_0 9 rfl rfl)
theorem dX2_newName_12 : decode cX2_newName 12 = .ok (.invokevirtual 111, 3) := dk_182 0 111 (dk_at dksX2_newName_0 12 rfl rfl)
theorem dX2_newName_15 : decode cX2_newName 15 = .ok (.ifnull 9, 3) := dk_198 0 9 (dk_at dksX2_newName_0 15 rfl rfl)
theorem dX2_newName_18 : decode cX2_newName 18 = .ok (.aload_n 0, 1) := dk_42 (dk_at dksX2_newName_0 18 rfl rfl)
theorem dX2_newName_19 : decode cX2_newName 19 = .ok (.iconst 3, 1) := dk_6 (dk_at dksX2_newName_0 19 rfl rfl)
theorem dX2_newName_20 : decode cX2_newName 20 = .ok (.invokevirtual 82, 3) := dk_182 0 82 (dk_at dksX2_newName_0 20 rfl rfl)
theorem dX2_newName_23 : decode cX2_newName 23 = .ok (.athrow, 1) := dk_191 (dk_at dksX2_newName_0 23 rfl rfl)
theorem dX2_newName_24 : decode cX2_newName 24 = .ok (.aload_n 0, 1) := dk_42 (dk_at dksX2_newName_1 0 rfl rfl)
theorem dX2_newName_25 : decode cX2_newName 25 = .ok (.getfield 61, 3) := dk_180 0 61 (dk_at dksX2_newName_1 1 rfl rfl)
theorem dX2_newName_28 : decode cX2_newName 28 = .ok (.astore_n 1, 1) := dk_76 (dk_at dksX2_newName_1 4 rfl rfl)
theorem dX2_newName_29 : decode cX2_newName 29 = .ok (.aload_n 0, 1) := dk_42 (dk_at dksX2_newName_1 5 rfl rfl)
theorem dX2_newName_30 : decode cX2_newName 30 = .ok (.invokevirtual 75, 3) := dk_182 0 75 (dk_at dksX2_newName_1 6 rfl rfl)
theorem dX2_newName_33 : decode cX2_newName 33 = .ok (.aload_n 1, 1) := dk_43 (dk_at dksX2_newName_1 9 rfl rfl)
theorem dX2_newName_34 : decode cX2_newName 34 = .ok (.areturn, 1) := dk_176 (dk_at dksX2_newName_1 10 rfl rfl)
abbrev cX2_mustName : ByteArray := prog_11_method_9_code
def yX2_mustName : MethodName := ⟨RX2, "mustName", "()V"⟩
def dkwX2_mustName_9 : List UInt8 := [42, 4, 182, 0, 82, 191, 177]
abbrev dktX2_mustName_9 : List UInt8 := dkwX2_mustName_9 ++ []
def dkwX2_mustName_8 : List UInt8 := [170, 0, 0, 0, 0, 0, 0, 54, 0, 0, 0, 0, 0, 0, 0, 7, 0, 0, 0, 48, 0, 0, 0, 48, 0, 0, 0, 48, 0, 0, 0, 48, 0, 0, 0, 48, 0, 0, 0, 48, 0, 0, 0, 48, 0, 0, 0, 48]
abbrev dktX2_mustName_8 : List UInt8 := dkwX2_mustName_8 ++ dktX2_mustName_9
def dkwX2_mustName_7 : List UInt8 := [61, 167, 0, 15, 43, 18, 103, 182, 0, 71, 153, 0, 6, 16, 7, 61, 28]
abbrev dktX2_mustName_7 : List UInt8 := dkwX2_mustName_7 ++ dktX2_mustName_8
def dkwX2_mustName_6 : List UInt8 := [18, 99, 182, 0, 71, 153, 0, 35, 8, 61, 167, 0, 30, 43, 18, 101, 182, 0, 71, 153, 0, 21, 16, 6]
abbrev dktX2_mustName_6 : List UInt8 := dkwX2_mustName_6 ++ dktX2_mustName_7
def dkwX2_mustName_5 : List UInt8 := [153, 0, 63, 6, 61, 167, 0, 58, 43, 18, 97, 182, 0, 71, 153, 0, 49, 7, 61, 167, 0, 44, 43]
abbrev dktX2_mustName_5 : List UInt8 := dkwX2_mustName_5 ++ dktX2_mustName_6
def dkwX2_mustName_4 : List UInt8 := [61, 167, 0, 86, 43, 18, 94, 182, 0, 71, 153, 0, 77, 5, 61, 167, 0, 72, 43, 18, 95, 182, 0, 71]
abbrev dktX2_mustName_4 : List UInt8 := dkwX2_mustName_4 ++ dktX2_mustName_5
def dkwX2_mustName_3 : List UInt8 := [43, 18, 90, 182, 0, 71, 153, 0, 105, 3, 61, 167, 0, 100, 43, 18, 92, 182, 0, 71, 153, 0, 91, 4]
abbrev dktX2_mustName_3 : List UInt8 := dkwX2_mustName_3 ++ dktX2_mustName_4
def dkwX2_mustName_2 : List UInt8 := [171, 0, 0, 0, 0, 0, 186, 0, 0, 0, 8, 196, 227, 155, 85, 0, 0, 0, 145, 202, 213, 80, 3, 0, 0, 0, 131, 0, 52, 38, 74, 0, 0, 0, 117, 0, 53, 221, 189, 0, 0, 0, 159, 0, 54, 106, 146, 0, 0, 0, 75, 5, 237, 199, 32, 0, 0, 0, 89, 6, 66, 39, 26, 0, 0, 0, 174, 6, 194, 109, 173, 0, 0, 0, 103]
abbrev dktX2_mustName_2 : List UInt8 := dkwX2_mustName_2 ++ dktX2_mustName_3
def dkwX2_mustName_1 : List UInt8 := [182, 0, 86]
abbrev dktX2_mustName_1 : List UInt8 := dkwX2_mustName_1 ++ dktX2_mustName_2
def dkwX2_mustName_0 : List UInt8 := [42, 180, 0, 47, 5, 159, 0, 9, 42, 4, 182, 0, 82, 191, 42, 180, 0, 61, 76, 2, 61, 43]
abbrev dktX2_mustName_0 : List UInt8 := dkwX2_mustName_0 ++ dktX2_mustName_1
theorem dksX2_mustName_0 : cX2_mustName.data.toList.drop 0 = dktX2_mustName_0 := by decide +kernel
theorem dksX2_mustName_1 : cX2_mustName.data.toList.drop 22 = dktX2_mustName_1 := dk_seg dksX2_mustName_0 22 rfl rfl
theorem dksX2_mustName_2 : cX2_mustName.data.toList.drop 25 = dktX2_mustName_2 := dk_seg dksX2_mustName_1 3 rfl rfl
theorem dksX2_mustName_3 : cX2_mustName.data.toList.drop 100 = dktX2_mustName_3 := dk_seg dksX2_mustName_2 75 rfl rfl
theorem dksX2_mustName_4 : cX2_mustName.data.toList.drop 124 = dktX2_mustName_4 := dk_seg dksX2_mustName_3 24 rfl rfl
theorem dksX2_mustName_5 : cX2_mustName.data.toList.drop 148 = dktX2_mustName_5 := dk_seg dksX2_mustName_4 24 rfl rfl
theorem dksX2_mustName_6 : cX2_mustName.data.toList.drop 171 = dktX2_mustName_6 := dk_seg dksX2_mustName_5 23 rfl rfl
theorem dksX2_mustName_7 : cX2_mustName.data.toList.drop 195 = dktX2_mustName_7 := dk_seg dksX2_mustName_6 24 rfl rfl
theorem dksX2_mustName_8 : cX2_mustName.data.toList.drop 212 = dktX2_mustName_8 := dk_seg dksX2_mustName_7 17 rfl rfl
theorem dksX2_mustName_9 : cX2_mustName.data.toList.drop 260 = dktX2_mustName_9 := dk_seg dksX2_mustName_8 48 rfl rfl
theorem dX2_mustName_0 : decode cX2_mustName 0 = .ok (.aload_n 0, 1) := dk_42 (dk_at dksX2_mustName_0 0 rfl rfl)
theorem dX2_mustName_1 : decode cX2_mustName 1 = .ok (.getfield 47, 3) := dk_180 0 47 (dk_at dksX2_mustName_0 1 rfl rfl)
theorem dX2_mustName_4 : decode cX2_mustName 4 = .ok (.iconst 2, 1) := dk_5 (dk_at dksX2_mustName_0 4 rfl rfl)
theorem dX2_mustName_5 : decode cX2_mustName 5 = .ok (.if_icmp .eq 9, 3) := dk_159 0 9 (dk_at dksX2_mustName_0 5 rfl rfl)
theorem dX2_mustName_8 : decode cX2_mustName 8 = .ok (.aload_n 0, 1) := dk_42 (dk_at dksX2_mustName_0 8 rfl rfl)
theorem dX2_mustName_9 : decode cX2_mustName 9 = .ok (.iconst 1, 1) := dk_4 (dk_at dksX2_mustName_0 9 rfl rfl)
theorem dX2_mustName_10 : decode cX2_mustName 10 = .ok (.invokevirtual 82, 3) := dk_182 0 82 (dk_at dksX2_mustName_0 10 rfl rfl)
theorem dX2_mustName_13 : decode cX2_mustName 13 = .ok (.athrow, 1) := dk_191 (dk_at dksX2_mustName_0 13 rfl rfl)
theorem dX2_mustName_14 : decode cX2_mustName 14 = .ok (.aload_n 0, 1) := dk_42 (dk_at dksX2_mustName_0 14 rfl rfl)
theorem dX2_mustName_15 : decode cX2_mustName 15 = .ok (.getfield 61, 3) := dk_180 0 61 (dk_at dksX2_mustName_0 15 rfl rfl)
theorem dX2_mustName_18 : decode cX2_mustName 18 = .ok (.astore_n 1, 1) := dk_76 (dk_at dksX2_mustName_0 18 rfl rfl)
theorem dX2_mustName_19 : decode cX2_mustName 19 = .ok (.iconst (-1), 1) := dk_2 (dk_at dksX2_mustName_0 19 rfl rfl)
theorem dX2_mustName_20 : decode cX2_mustName 20 = .ok (.istore_n 2, 1) := dk_61 (dk_at dksX2_mustName_0 20 rfl rfl)
theorem dX2_mustName_21 : decode cX2_mustName 21 = .ok (.aload_n 1, 1) := dk_43 (dk_at dksX2_mustName_0 21 rfl rfl)
theorem dX2_mustName_22 : decode cX2_mustName 22 = .ok (.invokevirtual 86, 3) := dk_182 0 86 (dk_at dksX2_mustName_1 0 rfl rfl)
theorem dX2_mustName_25 : decode cX2_mustName 25 = .ok (.lookupswitch 186 #[(-991716523, 145), (-891990013, 131), (3417674, 117), (3530173, 159), (3566226, 75), (99469088, 89), (104998682, 174), (113405357, 103)], 75) := by decide +kernel
theorem dX2_mustName_100 : decode cX2_mustName 100 = .ok (.aload_n 1, 1) := dk_43 (dk_at dksX2_mustName_3 0 rfl rfl)
theorem dX2_mustName_101 : decode cX2_mustName 101 = .ok (.ldc 90, 2) := dk_18 90 (dk_at dksX2_mustName_3 1 rfl rfl)
theorem dX2_mustName_103 : decode cX2_mustName 103 = .ok (.invokevirtual 71, 3) := dk_182 0 71 (dk_at dksX2_mustName_3 3 rfl rfl)
theorem dX2_mustName_106 : decode cX2_mustName 106 = .ok (.ifCond .eq 105, 3) := dk_153 0 105 (dk_at dksX2_mustName_3 6 rfl rfl)
theorem dX2_mustName_109 : decode cX2_mustName 109 = .ok (.iconst 0, 1) := dk_3 (dk_at dksX2_mustName_3 9 rfl rfl)
theorem dX2_mustName_110 : decode cX2_mustName 110 = .ok (.istore_n 2, 1) := dk_61 (dk_at dksX2_mustName_3 10 rfl rfl)
theorem dX2_mustName_111 : decode cX2_mustName 111 = .ok (.goto 100, 3) := dk_167 0 100 (dk_at dksX2_mustName_3 11 rfl rfl)
theorem dX2_mustName_114 : decode cX2_mustName 114 = .ok (.aload_n 1, 1) := dk_43 (dk_at dksX2_mustName_3 14 rfl rfl)
theorem dX2_mustName_115 : decode cX2_mustName 115 = .ok (.ldc 92, 2) := dk_18 92 (dk_at dksX2_mustName_3 15 rfl rfl)
theorem dX2_mustName_117 : decode cX2_mustName 117 = .ok (.invokevirtual 71, 3) := dk_182 0 71 (dk_at dksX2_mustName_3 17 rfl rfl)
theorem dX2_mustName_120 : decode cX2_mustName 120 = .ok (.ifCond .eq 91, 3) := dk_153 0 91 (dk_at dksX2_mustName_3 20 rfl rfl)
theorem dX2_mustName_123 : decode cX2_mustName 123 = .ok (.iconst 1, 1) := dk_4 (dk_at dksX2_mustName_3 23 rfl rfl)
theorem dX2_mustName_124 : decode cX2_mustName 124 = .ok (.istore_n 2, 1) := dk_61 (dk_at dksX2_mustName_4 0 rfl rfl)
theorem dX2_mustName_125 : decode cX2_mustName 125 = .ok (.goto 86, 3) := dk_167 0 86 (dk_at dksX2_mustName_4 1 rfl rfl)
theorem dX2_mustName_128 : decode cX2_mustName 128 = .ok (.aload_n 1, 1) := dk_43 (dk_at dksX2_mustName_4 4 rfl rfl)
theorem dX2_mustName_129 : decode cX2_mustName 129 = .ok (.ldc 94, 2) := dk_18 94 (dk_at dksX2_mustName_4 5 rfl rfl)
theorem dX2_mustName_131 : decode cX2_mustName 131 = .ok (.invokevirtual 71, 3) := dk_182 0 71 (dk_at dksX2_mustName_4 7 rfl rfl)
theorem dX2_mustName_134 : decode cX2_mustName 134 = .ok (.ifCond .eq 77, 3) := dk_153 0 77 (dk_at dksX2_mustName_4 10 rfl rfl)
theorem dX2_mustName_137 : decode cX2_mustName 137 = .ok (.iconst 2, 1) := dk_5 (dk_at dksX2_mustName_4 13 rfl rfl)
theorem dX2_mustName_138 : decode cX2_mustName 138 = .ok (.istore_n 2, 1) := dk_61 (dk_at dksX2_mustName_4 14 rfl rfl)
theorem dX2_mustName_139 : decode cX2_mustName 139 = .ok (.goto 72, 3) := dk_167 0 72 (dk_at dksX2_mustName_4 15 rfl rfl)
theorem dX2_mustName_142 : decode cX2_mustName 142 = .ok (.aload_n 1, 1) := dk_43 (dk_at dksX2_mustName_4 18 rfl rfl)
theorem dX2_mustName_143 : decode cX2_mustName 143 = .ok (.ldc 95, 2) := dk_18 95 (dk_at dksX2_mustName_4 19 rfl rfl)
theorem dX2_mustName_145 : decode cX2_mustName 145 = .ok (.invokevirtual 71, 3) := dk_182 0 71 (dk_at dksX2_mustName_4 21 rfl rfl)
theorem dX2_mustName_148 : decode cX2_mustName 148 = .ok (.ifCond .eq 63, 3) := dk_153 0 63 (dk_at dksX2_mustName_5 0 rfl rfl)
theorem dX2_mustName_151 : decode cX2_mustName 151 = .ok (.iconst 3, 1) := dk_6 (dk_at dksX2_mustName_5 3 rfl rfl)
theorem dX2_mustName_152 : decode cX2_mustName 152 = .ok (.istore_n 2, 1) := dk_61 (dk_at dksX2_mustName_5 4 rfl rfl)
theorem dX2_mustName_153 : decode cX2_mustName 153 = .ok (.goto 58, 3) := dk_167 0 58 (dk_at dksX2_mustName_5 5 rfl rfl)
theorem dX2_mustName_156 : decode cX2_mustName 156 = .ok (.aload_n 1, 1) := dk_43 (dk_at dksX2_mustName_5 8 rfl rfl)
theorem dX2_mustName_157 : decode cX2_mustName 157 = .ok (.ldc 97, 2) := dk_18 97 (dk_at dksX2_mustName_5 9 rfl rfl)
theorem dX2_mustName_159 : decode cX2_mustName 159 = .ok (.invokevirtual 71, 3) := dk_182 0 71 (dk_at dksX2_mustName_5 11 rfl rfl)
theorem dX2_mustName_162 : decode cX2_mustName 162 = .ok (.ifCond .eq 49, 3) := dk_153 0 49 (dk_at dksX2_mustName_5 14 rfl rfl)
theorem dX2_mustName_165 : decode cX2_mustName 165 = .ok (.iconst 4, 1) := dk_7 (dk_at dksX2_mustName_5 17 rfl rfl)
theorem dX2_mustName_166 : decode cX2_mustName 166 = .ok (.istore_n 2, 1) := dk_61 (dk_at dksX2_mustName_5 18 rfl rfl)
theorem dX2_mustName_167 : decode cX2_mustName 167 = .ok (.goto 44, 3) := dk_167 0 44 (dk_at dksX2_mustName_5 19 rfl rfl)
theorem dX2_mustName_170 : decode cX2_mustName 170 = .ok (.aload_n 1, 1) := dk_43 (dk_at dksX2_mustName_5 22 rfl rfl)
theorem dX2_mustName_171 : decode cX2_mustName 171 = .ok (.ldc 99, 2) := dk_18 99 (dk_at dksX2_mustName_6 0 rfl rfl)
theorem dX2_mustName_173 : decode cX2_mustName 173 = .ok (.invokevirtual 71, 3) := dk_182 0 71 (dk_at dksX2_mustName_6 2 rfl rfl)
theorem dX2_mustName_176 : decode cX2_mustName 176 = .ok (.ifCond .eq 35, 3) := dk_153 0 35 (dk_at dksX2_mustName_6 5 rfl rfl)
theorem dX2_mustName_179 : decode cX2_mustName 179 = .ok (.iconst 5, 1) := dk_8 (dk_at dksX2_mustName_6 8 rfl rfl)
theorem dX2_mustName_180 : decode cX2_mustName 180 = .ok (.istore_n 2, 1) := dk_61 (dk_at dksX2_mustName_6 9 rfl rfl)
theorem dX2_mustName_181 : decode cX2_mustName 181 = .ok (.goto 30, 3) := dk_167 0 30 (dk_at dksX2_mustName_6 10 rfl rfl)
theorem dX2_mustName_184 : decode cX2_mustName 184 = .ok (.aload_n 1, 1) := dk_43 (dk_at dksX2_mustName_6 13 rfl rfl)
theorem dX2_mustName_185 : decode cX2_mustName 185 = .ok (.ldc 101, 2) := dk_18 101 (dk_at dksX2_mustName_6 14 rfl rfl)
theorem dX2_mustName_187 : decode cX2_mustName 187 = .ok (.invokevirtual 71, 3) := dk_182 0 71 (dk_at dksX2_mustName_6 16 rfl rfl)
theorem dX2_mustName_190 : decode cX2_mustName 190 = .ok (.ifCond .eq 21, 3) := dk_153 0 21 (dk_at dksX2_mustName_6 19 rfl rfl)
theorem dX2_mustName_193 : decode cX2_mustName 193 = .ok (.bipush 6, 2) := dk_16 6 (dk_at dksX2_mustName_6 22 rfl rfl)
theorem dX2_mustName_195 : decode cX2_mustName 195 = .ok (.istore_n 2, 1) := dk_61 (dk_at dksX2_mustName_7 0 rfl rfl)
theorem dX2_mustName_196 : decode cX2_mustName 196 = .ok (.goto 15, 3) := dk_167 0 15 (dk_at dksX2_mustName_7 1 rfl rfl)
theorem dX2_mustName_199 : decode cX2_mustName 199 = .ok (.aload_n 1, 1) := dk_43 (dk_at dksX2_mustName_7 4 rfl rfl)
theorem dX2_mustName_200 : decode cX2_mustName 200 = .ok (.ldc 103, 2) := dk_18 103 (dk_at dksX2_mustName_7 5 rfl rfl)
theorem dX2_mustName_202 : decode cX2_mustName 202 = .ok (.invokevirtual 71, 3) := dk_182 0 71 (dk_at dksX2_mustName_7 7 rfl rfl)
theorem dX2_mustName_205 : decode cX2_mustName 205 = .ok (.ifCond .eq 6, 3) := dk_153 0 6 (dk_at dksX2_mustName_7 10 rfl rfl)
theorem dX2_mustName_208 : decode cX2_mustName 208 = .ok (.bipush 7, 2) := dk_16 7 (dk_at dksX2_mustName_7 13 rfl rfl)
theorem dX2_mustName_210 : decode cX2_mustName 210 = .ok (.istore_n 2, 1) := dk_61 (dk_at dksX2_mustName_7 15 rfl rfl)
theorem dX2_mustName_211 : decode cX2_mustName 211 = .ok (.iload_n 2, 1) := dk_28 (dk_at dksX2_mustName_7 16 rfl rfl)
theorem dX2_mustName_212 : decode cX2_mustName 212 = .ok (.tableswitch 54 0 7 #[48, 48, 48, 48, 48, 48, 48, 48], 48) := by decide +kernel
theorem dX2_mustName_260 : decode cX2_mustName 260 = .ok (.aload_n 0, 1) := dk_42 (dk_at dksX2_mustName_9 0 rfl rfl)
theorem dX2_mustName_261 : decode cX2_mustName 261 = .ok (.iconst 1, 1) := dk_4 (dk_at dksX2_mustName_9 1 rfl rfl)
theorem dX2_mustName_262 : decode cX2_mustName 262 = .ok (.invokevirtual 82, 3) := dk_182 0 82 (dk_at dksX2_mustName_9 2 rfl rfl)
theorem dX2_mustName_265 : decode cX2_mustName 265 = .ok (.athrow, 1) := dk_191 (dk_at dksX2_mustName_9 5 rfl rfl)
theorem dX2_mustName_266 : decode cX2_mustName 266 = .ok (.return_, 1) := dk_177 (dk_at dksX2_mustName_9 6 rfl rfl)
abbrev cX2_anyWord : ByteArray := prog_11_method_11_code
def yX2_anyWord : MethodName := ⟨RX2, "anyWord", "()Ljava/lang/String;"⟩
def dkwX2_anyWord_1 : List UInt8 := [176]
abbrev dktX2_anyWord_1 : List UInt8 := dkwX2_anyWord_1 ++ []
def dkwX2_anyWord_0 : List UInt8 := [42, 180, 0, 47, 5, 159, 0, 9, 42, 4, 182, 0, 82, 191, 42, 180, 0, 61, 76, 42, 182, 0, 75, 43]
abbrev dktX2_anyWord_0 : List UInt8 := dkwX2_anyWord_0 ++ dktX2_anyWord_1
theorem dksX2_anyWord_0 : cX2_anyWord.data.toList.drop 0 = dktX2_anyWord_0 := by decide +kernel
theorem dksX2_anyWord_1 : cX2_anyWord.data.toList.drop 24 = dktX2_anyWord_1 := dk_seg dksX2_anyWord_0 24 rfl rfl
theorem dX2_anyWord_0 : decode cX2_anyWord 0 = .ok (.aload_n 0, 1) := dk_42 (dk_at dksX2_anyWord_0 0 rfl rfl)
theorem dX2_anyWord_1 : decode cX2_anyWord 1 = .ok (.getfield 47, 3) := dk_180 0 47 (dk_at dksX2_anyWord_0 1 rfl rfl)
theorem dX2_anyWord_4 : decode cX2_anyWord 4 = .ok (.iconst 2, 1) := dk_5 (dk_at dksX2_anyWord_0 4 rfl rfl)
theorem dX2_anyWord_5 : decode cX2_anyWord 5 = .ok (.if_icmp .eq 9, 3) := dk_159 0 9 (dk_at dksX2_anyWord_0 5 rfl rfl)
theorem dX2_anyWord_8 : decode cX2_anyWord 8 = .ok (.aload_n 0, 1) := dk_42 (dk_at dksX2_anyWord_0 8 rfl rfl)
theorem dX2_anyWord_9 : decode cX2_anyWord 9 = .ok (.iconst 1, 1) := dk_4 (dk_at dksX2_anyWord_0 9 rfl rfl)
theorem dX2_anyWord_10 : decode cX2_anyWord 10 = .ok (.invokevirtual 82, 3) := dk_182 0 82 (dk_at dksX2_anyWord_0 10 rfl rfl)
theorem dX2_anyWord_13 : decode cX2_anyWord 13 = .ok (.athrow, 1) := dk_191 (dk_at dksX2_anyWord_0 13 rfl rfl)
theorem dX2_anyWord_14 : decode cX2_anyWord 14 = .ok (.aload_n 0, 1) := dk_42 (dk_at dksX2_anyWord_0 14 rfl rfl)
theorem dX2_anyWord_15 : decode cX2_anyWord 15 = .ok (.getfield 61, 3) := dk_180 0 61 (dk_at dksX2_anyWord_0 15 rfl rfl)
theorem dX2_anyWord_18 : decode cX2_anyWord 18 = .ok (.astore_n 1, 1) := dk_76 (dk_at dksX2_anyWord_0 18 rfl rfl)
theorem dX2_anyWord_19 : decode cX2_anyWord 19 = .ok (.aload_n 0, 1) := dk_42 (dk_at dksX2_anyWord_0 19 rfl rfl)
theorem dX2_anyWord_20 : decode cX2_anyWord 20 = .ok (.invokevirtual 75, 3) := dk_182 0 75 (dk_at dksX2_anyWord_0 20 rfl rfl)
theorem dX2_anyWord_23 : decode cX2_anyWord 23 = .ok (.aload_n 1, 1) := dk_43 (dk_at dksX2_anyWord_0 23 rfl rfl)
theorem dX2_anyWord_24 : decode cX2_anyWord 24 = .ok (.areturn, 1) := dk_176 (dk_at dksX2_anyWord_1 0 rfl rfl)
abbrev cX2_wrongLine : ByteArray := prog_11_method_21_code
def yX2_wrongLine : MethodName := ⟨RX2, "wrongLine", "()V"⟩
def dkwX2_wrongLine_3 : List UInt8 := [44, 4, 181, 0, 217, 177]
abbrev dktX2_wrongLine_3 : List UInt8 := dkwX2_wrongLine_3 ++ []
def dkwX2_wrongLine_2 : List UInt8 := [180, 0, 217, 153, 0, 9, 42, 6, 182, 0, 82, 191, 42, 182, 0, 75, 43, 44, 180, 0, 220, 181, 0, 213]
abbrev dktX2_wrongLine_2 : List UInt8 := dkwX2_wrongLine_2 ++ dktX2_wrongLine_3
def dkwX2_wrongLine_1 : List UInt8 := [191, 42, 182, 0, 75, 42, 18, 215, 182, 0, 123, 42, 182, 0, 119, 77, 44, 43, 165, 0, 10, 44]
abbrev dktX2_wrongLine_1 : List UInt8 := dkwX2_wrongLine_1 ++ dktX2_wrongLine_2
def dkwX2_wrongLine_0 : List UInt8 := [42, 4, 182, 0, 178, 42, 182, 0, 119, 76, 43, 180, 0, 213, 16, 254, 159, 0, 9, 42, 6, 182, 0, 82]
abbrev dktX2_wrongLine_0 : List UInt8 := dkwX2_wrongLine_0 ++ dktX2_wrongLine_1
theorem dksX2_wrongLine_0 : cX2_wrongLine.data.toList.drop 0 = dktX2_wrongLine_0 := by decide +kernel
theorem dksX2_wrongLine_1 : cX2_wrongLine.data.toList.drop 24 = dktX2_wrongLine_1 := dk_seg dksX2_wrongLine_0 24 rfl rfl
theorem dksX2_wrongLine_2 : cX2_wrongLine.data.toList.drop 46 = dktX2_wrongLine_2 := dk_seg dksX2_wrongLine_1 22 rfl rfl
theorem dksX2_wrongLine_3 : cX2_wrongLine.data.toList.drop 70 = dktX2_wrongLine_3 := dk_seg dksX2_wrongLine_2 24 rfl rfl
theorem dX2_wrongLine_0 : decode cX2_wrongLine 0 = .ok (.aload_n 0, 1) := dk_42 (dk_at dksX2_wrongLine_0 0 rfl rfl)
theorem dX2_wrongLine_1 : decode cX2_wrongLine 1 = .ok (.iconst 1, 1) := dk_4 (dk_at dksX2_wrongLine_0 1 rfl rfl)
theorem dX2_wrongLine_2 : decode cX2_wrongLine 2 = .ok (.invokevirtual 178, 3) := dk_182 0 178 (dk_at dksX2_wrongLine_0 2 rfl rfl)
theorem dX2_wrongLine_5 : decode cX2_wrongLine 5 = .ok (.aload_n 0, 1) := dk_42 (dk_at dksX2_wrongLine_0 5 rfl rfl)
theorem dX2_wrongLine_6 : decode cX2_wrongLine 6 = .ok (.invokevirtual 119, 3) := dk_182 0 119 (dk_at dksX2_wrongLine_0 6 rfl rfl)
theorem dX2_wrongLine_9 : decode cX2_wrongLine 9 = .ok (.astore_n 1, 1) := dk_76 (dk_at dksX2_wrongLine_0 9 rfl rfl)
theorem dX2_wrongLine_10 : decode cX2_wrongLine 10 = .ok (.aload_n 1, 1) := dk_43 (dk_at dksX2_wrongLine_0 10 rfl rfl)
theorem dX2_wrongLine_11 : decode cX2_wrongLine 11 = .ok (.getfield 213, 3) := dk_180 0 213 (dk_at dksX2_wrongLine_0 11 rfl rfl)
theorem dX2_wrongLine_14 : decode cX2_wrongLine 14 = .ok (.bipush (-2), 2) := dk_16 254 (dk_at dksX2_wrongLine_0 14 rfl rfl)
theorem dX2_wrongLine_16 : decode cX2_wrongLine 16 = .ok (.if_icmp .eq 9, 3) := dk_159 0 9 (dk_at dksX2_wrongLine_0 16 rfl rfl)
theorem dX2_wrongLine_19 : decode cX2_wrongLine 19 = .ok (.aload_n 0, 1) := dk_42 (dk_at dksX2_wrongLine_0 19 rfl rfl)
theorem dX2_wrongLine_20 : decode cX2_wrongLine 20 = .ok (.iconst 3, 1) := dk_6 (dk_at dksX2_wrongLine_0 20 rfl rfl)
theorem dX2_wrongLine_21 : decode cX2_wrongLine 21 = .ok (.invokevirtual 82, 3) := dk_182 0 82 (dk_at dksX2_wrongLine_0 21 rfl rfl)
theorem dX2_wrongLine_24 : decode cX2_wrongLine 24 = .ok (.athrow, 1) := dk_191 (dk_at dksX2_wrongLine_1 0 rfl rfl)
theorem dX2_wrongLine_25 : decode cX2_wrongLine 25 = .ok (.aload_n 0, 1) := dk_42 (dk_at dksX2_wrongLine_1 1 rfl rfl)
theorem dX2_wrongLine_26 : decode cX2_wrongLine 26 = .ok (.invokevirtual 75, 3) := dk_182 0 75 (dk_at dksX2_wrongLine_1 2 rfl rfl)
theorem dX2_wrongLine_29 : decode cX2_wrongLine 29 = .ok (.aload_n 0, 1) := dk_42 (dk_at dksX2_wrongLine_1 5 rfl rfl)
theorem dX2_wrongLine_30 : decode cX2_wrongLine 30 = .ok (.ldc 215, 2) := dk_18 215 (dk_at dksX2_wrongLine_1 6 rfl rfl)
theorem dX2_wrongLine_32 : decode cX2_wrongLine 32 = .ok (.invokevirtual 123, 3) := dk_182 0 123 (dk_at dksX2_wrongLine_1 8 rfl rfl)
theorem dX2_wrongLine_35 : decode cX2_wrongLine 35 = .ok (.aload_n 0, 1) := dk_42 (dk_at dksX2_wrongLine_1 11 rfl rfl)
theorem dX2_wrongLine_36 : decode cX2_wrongLine 36 = .ok (.invokevirtual 119, 3) := dk_182 0 119 (dk_at dksX2_wrongLine_1 12 rfl rfl)
theorem dX2_wrongLine_39 : decode cX2_wrongLine 39 = .ok (.astore_n 2, 1) := dk_77 (dk_at dksX2_wrongLine_1 15 rfl rfl)
theorem dX2_wrongLine_40 : decode cX2_wrongLine 40 = .ok (.aload_n 2, 1) := dk_44 (dk_at dksX2_wrongLine_1 16 rfl rfl)
theorem dX2_wrongLine_41 : decode cX2_wrongLine 41 = .ok (.aload_n 1, 1) := dk_43 (dk_at dksX2_wrongLine_1 17 rfl rfl)
theorem dX2_wrongLine_42 : decode cX2_wrongLine 42 = .ok (.if_acmp .eq 10, 3) := dk_165 0 10 (dk_at dksX2_wrongLine_1 18 rfl rfl)
theorem dX2_wrongLine_45 : decode cX2_wrongLine 45 = .ok (.aload_n 2, 1) := dk_44 (dk_at dksX2_wrongLine_1 21 rfl rfl)
theorem dX2_wrongLine_46 : decode cX2_wrongLine 46 = .ok (.getfield 217, 3) := dk_180 0 217 (dk_at dksX2_wrongLine_2 0 rfl rfl)
theorem dX2_wrongLine_49 : decode cX2_wrongLine 49 = .ok (.ifCond .eq 9, 3) := dk_153 0 9 (dk_at dksX2_wrongLine_2 3 rfl rfl)
theorem dX2_wrongLine_52 : decode cX2_wrongLine 52 = .ok (.aload_n 0, 1) := dk_42 (dk_at dksX2_wrongLine_2 6 rfl rfl)
theorem dX2_wrongLine_53 : decode cX2_wrongLine 53 = .ok (.iconst 3, 1) := dk_6 (dk_at dksX2_wrongLine_2 7 rfl rfl)
theorem dX2_wrongLine_54 : decode cX2_wrongLine 54 = .ok (.invokevirtual 82, 3) := dk_182 0 82 (dk_at dksX2_wrongLine_2 8 rfl rfl)
theorem dX2_wrongLine_57 : decode cX2_wrongLine 57 = .ok (.athrow, 1) := dk_191 (dk_at dksX2_wrongLine_2 11 rfl rfl)
theorem dX2_wrongLine_58 : decode cX2_wrongLine 58 = .ok (.aload_n 0, 1) := dk_42 (dk_at dksX2_wrongLine_2 12 rfl rfl)
theorem dX2_wrongLine_59 : decode cX2_wrongLine 59 = .ok (.invokevirtual 75, 3) := dk_182 0 75 (dk_at dksX2_wrongLine_2 13 rfl rfl)
theorem dX2_wrongLine_62 : decode cX2_wrongLine 62 = .ok (.aload_n 1, 1) := dk_43 (dk_at dksX2_wrongLine_2 16 rfl rfl)
theorem dX2_wrongLine_63 : decode cX2_wrongLine 63 = .ok (.aload_n 2, 1) := dk_44 (dk_at dksX2_wrongLine_2 17 rfl rfl)
theorem dX2_wrongLine_64 : decode cX2_wrongLine 64 = .ok (.getfield 220, 3) := dk_180 0 220 (dk_at dksX2_wrongLine_2 18 rfl rfl)
theorem dX2_wrongLine_67 : decode cX2_wrongLine 67 = .ok (.putfield 213, 3) := dk_181 0 213 (dk_at dksX2_wrongLine_2 21 rfl rfl)
theorem dX2_wrongLine_70 : decode cX2_wrongLine 70 = .ok (.aload_n 2, 1) := dk_44 (dk_at dksX2_wrongLine_3 0 rfl rfl)
theorem dX2_wrongLine_71 : decode cX2_wrongLine 71 = .ok (.iconst 1, 1) := dk_4 (dk_at dksX2_wrongLine_3 1 rfl rfl)
theorem dX2_wrongLine_72 : decode cX2_wrongLine 72 = .ok (.putfield 217, 3) := dk_181 0 217 (dk_at dksX2_wrongLine_3 2 rfl rfl)
theorem dX2_wrongLine_75 : decode cX2_wrongLine 75 = .ok (.return_, 1) := dk_177 (dk_at dksX2_wrongLine_3 5 rfl rfl)
abbrev cX2_houseHere : ByteArray := prog_11_method_12_code
def yX2_houseHere : MethodName := ⟨RX2, "houseHere", "()LWrongRoom$House;"⟩
def dkwX2_houseHere_1 : List UInt8 := [5, 182, 0, 82, 191, 43, 192, 0, 117, 176]
abbrev dktX2_houseHere_1 : List UInt8 := dkwX2_houseHere_1 ++ []
def dkwX2_houseHere_0 : List UInt8 := [42, 182, 0, 105, 42, 180, 0, 108, 42, 180, 0, 61, 182, 0, 111, 76, 43, 193, 0, 117, 154, 0, 9, 42]
abbrev dktX2_houseHere_0 : List UInt8 := dkwX2_houseHere_0 ++ dktX2_houseHere_1
theorem dksX2_houseHere_0 : cX2_houseHere.data.toList.drop 0 = dktX2_houseHere_0 := by decide +kernel
theorem dksX2_houseHere_1 : cX2_houseHere.data.toList.drop 24 = dktX2_houseHere_1 := dk_seg dksX2_houseHere_0 24 rfl rfl
theorem dX2_houseHere_0 : decode cX2_houseHere 0 = .ok (.aload_n 0, 1) := dk_42 (dk_at dksX2_houseHere_0 0 rfl rfl)
theorem dX2_houseHere_1 : decode cX2_houseHere 1 = .ok (.invokevirtual 105, 3) := dk_182 0 105 (dk_at dksX2_houseHere_0 1 rfl rfl)
theorem dX2_houseHere_4 : decode cX2_houseHere 4 = .ok (.aload_n 0, 1) := dk_42 (dk_at dksX2_houseHere_0 4 rfl rfl)
theorem dX2_houseHere_5 : decode cX2_houseHere 5 = .ok (.getfield 108, 3) := dk_180 0 108 (dk_at dksX2_houseHere_0 5 rfl rfl)
theorem dX2_houseHere_8 : decode cX2_houseHere 8 = .ok (.aload_n 0, 1) := dk_42 (dk_at dksX2_houseHere_0 8 rfl rfl)
theorem dX2_houseHere_9 : decode cX2_houseHere 9 = .ok (.getfield 61, 3) := dk_180 0 61 (dk_at dksX2_houseHere_0 9 rfl rfl)
theorem dX2_houseHere_12 : decode cX2_houseHere 12 = .ok (.invokevirtual 111, 3) := dk_182 0 111 (dk_at dksX2_houseHere_0 12 rfl rfl)
theorem dX2_houseHere_15 : decode cX2_houseHere 15 = .ok (.astore_n 1, 1) := dk_76 (dk_at dksX2_houseHere_0 15 rfl rfl)
theorem dX2_houseHere_16 : decode cX2_houseHere 16 = .ok (.aload_n 1, 1) := dk_43 (dk_at dksX2_houseHere_0 16 rfl rfl)
theorem dX2_houseHere_17 : decode cX2_houseHere 17 = .ok (.instanceof 117, 3) := dk_193 0 117 (dk_at dksX2_houseHere_0 17 rfl rfl)
theorem dX2_houseHere_20 : decode cX2_houseHere 20 = .ok (.ifCond .ne 9, 3) := dk_154 0 9 (dk_at dksX2_houseHere_0 20 rfl rfl)
theorem dX2_houseHere_23 : decode cX2_houseHere 23 = .ok (.aload_n 0, 1) := dk_42 (dk_at dksX2_houseHere_0 23 rfl rfl)
theorem dX2_houseHere_24 : decode cX2_houseHere 24 = .ok (.iconst 2, 1) := dk_5 (dk_at dksX2_houseHere_1 0 rfl rfl)
theorem dX2_houseHere_25 : decode cX2_houseHere 25 = .ok (.invokevirtual 82, 3) := dk_182 0 82 (dk_at dksX2_houseHere_1 1 rfl rfl)
theorem dX2_houseHere_28 : decode cX2_houseHere 28 = .ok (.athrow, 1) := dk_191 (dk_at dksX2_houseHere_1 4 rfl rfl)
theorem dX2_houseHere_29 : decode cX2_houseHere 29 = .ok (.aload_n 1, 1) := dk_43 (dk_at dksX2_houseHere_1 5 rfl rfl)
theorem dX2_houseHere_30 : decode cX2_houseHere 30 = .ok (.checkcast 117, 3) := dk_192 0 117 (dk_at dksX2_houseHere_1 6 rfl rfl)
theorem dX2_houseHere_33 : decode cX2_houseHere 33 = .ok (.areturn, 1) := dk_176 (dk_at dksX2_houseHere_1 9 rfl rfl)
abbrev cX2_openLine : ByteArray := prog_11_method_22_code
def yX2_openLine : MethodName := ⟨RX2, "openLine", "()V"⟩
def dkwX2_openLine_3 : List UInt8 := [181, 0, 233, 177]
abbrev dktX2_openLine_3 : List UInt8 := dkwX2_openLine_3 ++ []
def dkwX2_openLine_2 : List UInt8 := [16, 23, 182, 0, 168, 181, 0, 231, 43, 4, 181, 0, 222, 42, 180, 0, 108, 89, 180, 0, 233, 4, 96]
abbrev dktX2_openLine_2 : List UInt8 := dkwX2_openLine_2 ++ dktX2_openLine_3
def dkwX2_openLine_1 : List UInt8 := [182, 0, 75, 43, 42, 18, 225, 3, 16, 23, 182, 0, 168, 181, 0, 227, 43, 42, 18, 229, 43, 180, 0, 227]
abbrev dktX2_openLine_1 : List UInt8 := dkwX2_openLine_1 ++ dktX2_openLine_2
def dkwX2_openLine_0 : List UInt8 := [42, 4, 182, 0, 178, 42, 182, 0, 119, 76, 43, 180, 0, 222, 153, 0, 9, 42, 6, 182, 0, 82, 191, 42]
abbrev dktX2_openLine_0 : List UInt8 := dkwX2_openLine_0 ++ dktX2_openLine_1
theorem dksX2_openLine_0 : cX2_openLine.data.toList.drop 0 = dktX2_openLine_0 := by decide +kernel
theorem dksX2_openLine_1 : cX2_openLine.data.toList.drop 24 = dktX2_openLine_1 := dk_seg dksX2_openLine_0 24 rfl rfl
theorem dksX2_openLine_2 : cX2_openLine.data.toList.drop 48 = dktX2_openLine_2 := dk_seg dksX2_openLine_1 24 rfl rfl
theorem dksX2_openLine_3 : cX2_openLine.data.toList.drop 71 = dktX2_openLine_3 := dk_seg dksX2_openLine_2 23 rfl rfl
theorem dX2_openLine_0 : decode cX2_openLine 0 = .ok (.aload_n 0, 1) := dk_42 (dk_at dksX2_openLine_0 0 rfl rfl)
theorem dX2_openLine_1 : decode cX2_openLine 1 = .ok (.iconst 1, 1) := dk_4 (dk_at dksX2_openLine_0 1 rfl rfl)
theorem dX2_openLine_2 : decode cX2_openLine 2 = .ok (.invokevirtual 178, 3) := dk_182 0 178 (dk_at dksX2_openLine_0 2 rfl rfl)
theorem dX2_openLine_5 : decode cX2_openLine 5 = .ok (.aload_n 0, 1) := dk_42 (dk_at dksX2_openLine_0 5 rfl rfl)
theorem dX2_openLine_6 : decode cX2_openLine 6 = .ok (.invokevirtual 119, 3) := dk_182 0 119 (dk_at dksX2_openLine_0 6 rfl rfl)
theorem dX2_openLine_9 : decode cX2_openLine 9 = .ok (.astore_n 1, 1) := dk_76 (dk_at dksX2_openLine_0 9 rfl rfl)
theorem dX2_openLine_10 : decode cX2_openLine 10 = .ok (.aload_n 1, 1) := dk_43 (dk_at dksX2_openLine_0 10 rfl rfl)
theorem dX2_openLine_11 : decode cX2_openLine 11 = .ok (.getfield 222, 3) := dk_180 0 222 (dk_at dksX2_openLine_0 11 rfl rfl)
theorem dX2_openLine_14 : decode cX2_openLine 14 = .ok (.ifCond .eq 9, 3) := dk_153 0 9 (dk_at dksX2_openLine_0 14 rfl rfl)
theorem dX2_openLine_17 : decode cX2_openLine 17 = .ok (.aload_n 0, 1) := dk_42 (dk_at dksX2_openLine_0 17 rfl rfl)
theorem dX2_openLine_18 : decode cX2_openLine 18 = .ok (.iconst 3, 1) := dk_6 (dk_at dksX2_openLine_0 18 rfl rfl)
theorem dX2_openLine_19 : decode cX2_openLine 19 = .ok (.invokevirtual 82, 3) := dk_182 0 82 (dk_at dksX2_openLine_0 19 rfl rfl)
theorem dX2_openLine_22 : decode cX2_openLine 22 = .ok (.athrow, 1) := dk_191 (dk_at dksX2_openLine_0 22 rfl rfl)
theorem dX2_openLine_23 : decode cX2_openLine 23 = .ok (.aload_n 0, 1) := dk_42 (dk_at dksX2_openLine_0 23 rfl rfl)
theorem dX2_openLine_24 : decode cX2_openLine 24 = .ok (.invokevirtual 75, 3) := dk_182 0 75 (dk_at dksX2_openLine_1 0 rfl rfl)
theorem dX2_openLine_27 : decode cX2_openLine 27 = .ok (.aload_n 1, 1) := dk_43 (dk_at dksX2_openLine_1 3 rfl rfl)
theorem dX2_openLine_28 : decode cX2_openLine 28 = .ok (.aload_n 0, 1) := dk_42 (dk_at dksX2_openLine_1 4 rfl rfl)
theorem dX2_openLine_29 : decode cX2_openLine 29 = .ok (.ldc 225, 2) := dk_18 225 (dk_at dksX2_openLine_1 5 rfl rfl)
theorem dX2_openLine_31 : decode cX2_openLine 31 = .ok (.iconst 0, 1) := dk_3 (dk_at dksX2_openLine_1 7 rfl rfl)
theorem dX2_openLine_32 : decode cX2_openLine 32 = .ok (.bipush 23, 2) := dk_16 23 (dk_at dksX2_openLine_1 8 rfl rfl)
theorem dX2_openLine_34 : decode cX2_openLine 34 = .ok (.invokevirtual 168, 3) := dk_182 0 168 (dk_at dksX2_openLine_1 10 rfl rfl)
theorem dX2_openLine_37 : decode cX2_openLine 37 = .ok (.putfield 227, 3) := dk_181 0 227 (dk_at dksX2_openLine_1 13 rfl rfl)
theorem dX2_openLine_40 : decode cX2_openLine 40 = .ok (.aload_n 1, 1) := dk_43 (dk_at dksX2_openLine_1 16 rfl rfl)
theorem dX2_openLine_41 : decode cX2_openLine 41 = .ok (.aload_n 0, 1) := dk_42 (dk_at dksX2_openLine_1 17 rfl rfl)
theorem dX2_openLine_42 : decode cX2_openLine 42 = .ok (.ldc 229, 2) := dk_18 229 (dk_at dksX2_openLine_1 18 rfl rfl)
theorem dX2_openLine_44 : decode cX2_openLine 44 = .ok (.aload_n 1, 1) := dk_43 (dk_at dksX2_openLine_1 20 rfl rfl)
theorem dX2_openLine_45 : decode cX2_openLine 45 = .ok (.getfield 227, 3) := dk_180 0 227 (dk_at dksX2_openLine_1 21 rfl rfl)
theorem dX2_openLine_48 : decode cX2_openLine 48 = .ok (.bipush 23, 2) := dk_16 23 (dk_at dksX2_openLine_2 0 rfl rfl)
theorem dX2_openLine_50 : decode cX2_openLine 50 = .ok (.invokevirtual 168, 3) := dk_182 0 168 (dk_at dksX2_openLine_2 2 rfl rfl)
theorem dX2_openLine_53 : decode cX2_openLine 53 = .ok (.putfield 231, 3) := dk_181 0 231 (dk_at dksX2_openLine_2 5 rfl rfl)
theorem dX2_openLine_56 : decode cX2_openLine 56 = .ok (.aload_n 1, 1) := dk_43 (dk_at dksX2_openLine_2 8 rfl rfl)
theorem dX2_openLine_57 : decode cX2_openLine 57 = .ok (.iconst 1, 1) := dk_4 (dk_at dksX2_openLine_2 9 rfl rfl)
theorem dX2_openLine_58 : decode cX2_openLine 58 = .ok (.putfield 222, 3) := dk_181 0 222 (dk_at dksX2_openLine_2 10 rfl rfl)
theorem dX2_openLine_61 : decode cX2_openLine 61 = .ok (.aload_n 0, 1) := dk_42 (dk_at dksX2_openLine_2 13 rfl rfl)
theorem dX2_openLine_62 : decode cX2_openLine 62 = .ok (.getfield 108, 3) := dk_180 0 108 (dk_at dksX2_openLine_2 14 rfl rfl)
theorem dX2_openLine_65 : decode cX2_openLine 65 = .ok (.dup, 1) := dk_89 (dk_at dksX2_openLine_2 17 rfl rfl)
theorem dX2_openLine_66 : decode cX2_openLine 66 = .ok (.getfield 233, 3) := dk_180 0 233 (dk_at dksX2_openLine_2 18 rfl rfl)
theorem dX2_openLine_69 : decode cX2_openLine 69 = .ok (.iconst 1, 1) := dk_4 (dk_at dksX2_openLine_2 21 rfl rfl)
theorem dX2_openLine_70 : decode cX2_openLine 70 = .ok (.iadd, 1) := dk_96 (dk_at dksX2_openLine_2 22 rfl rfl)
theorem dX2_openLine_71 : decode cX2_openLine 71 = .ok (.putfield 233, 3) := dk_181 0 233 (dk_at dksX2_openLine_3 0 rfl rfl)
theorem dX2_openLine_74 : decode cX2_openLine 74 = .ok (.return_, 1) := dk_177 (dk_at dksX2_openLine_3 3 rfl rfl)
abbrev cX2_streetLine : ByteArray := prog_11_method_23_code
def yX2_streetLine : MethodName := ⟨RX2, "streetLine", "()V"⟩
def dkwX2_streetLine_5 : List UInt8 := [42, 180, 0, 108, 89, 180, 0, 236, 4, 96, 181, 0, 236, 177]
abbrev dktX2_streetLine_5 : List UInt8 := dkwX2_streetLine_5 ++ []
def dkwX2_streetLine_4 : List UInt8 := [96, 29, 79, 42, 180, 0, 108, 180, 0, 245, 16, 7, 44, 180, 0, 220, 104, 43, 180, 0, 220, 96, 29, 79]
abbrev dktX2_streetLine_4 : List UInt8 := dkwX2_streetLine_4 ++ dktX2_streetLine_5
def dkwX2_streetLine_3 : List UInt8 := [16, 99, 182, 0, 168, 62, 42, 180, 0, 108, 180, 0, 245, 16, 7, 43, 180, 0, 220, 104, 44, 180, 0, 220]
abbrev dktX2_streetLine_3 : List UInt8 := dkwX2_streetLine_3 ++ dktX2_streetLine_4
def dkwX2_streetLine_2 : List UInt8 := [180, 0, 220, 182, 0, 241, 158, 0, 9, 42, 6, 182, 0, 82, 191, 42, 182, 0, 75, 42, 18, 243, 4]
abbrev dktX2_streetLine_2 : List UInt8 := dkwX2_streetLine_2 ++ dktX2_streetLine_3
def dkwX2_streetLine_1 : List UInt8 := [182, 0, 239, 76, 42, 182, 0, 119, 77, 43, 44, 165, 0, 21, 42, 180, 0, 108, 43, 180, 0, 220, 44]
abbrev dktX2_streetLine_1 : List UInt8 := dkwX2_streetLine_1 ++ dktX2_streetLine_2
def dkwX2_streetLine_0 : List UInt8 := [42, 42, 180, 0, 108, 180, 0, 236, 16, 10, 162, 0, 7, 4, 167, 0, 4, 3, 182, 0, 178, 42]
abbrev dktX2_streetLine_0 : List UInt8 := dkwX2_streetLine_0 ++ dktX2_streetLine_1
theorem dksX2_streetLine_0 : cX2_streetLine.data.toList.drop 0 = dktX2_streetLine_0 := by decide +kernel
theorem dksX2_streetLine_1 : cX2_streetLine.data.toList.drop 22 = dktX2_streetLine_1 := dk_seg dksX2_streetLine_0 22 rfl rfl
theorem dksX2_streetLine_2 : cX2_streetLine.data.toList.drop 45 = dktX2_streetLine_2 := dk_seg dksX2_streetLine_1 23 rfl rfl
theorem dksX2_streetLine_3 : cX2_streetLine.data.toList.drop 68 = dktX2_streetLine_3 := dk_seg dksX2_streetLine_2 23 rfl rfl
theorem dksX2_streetLine_4 : cX2_streetLine.data.toList.drop 92 = dktX2_streetLine_4 := dk_seg dksX2_streetLine_3 24 rfl rfl
theorem dksX2_streetLine_5 : cX2_streetLine.data.toList.drop 116 = dktX2_streetLine_5 := dk_seg dksX2_streetLine_4 24 rfl rfl
theorem dX2_streetLine_0 : decode cX2_streetLine 0 = .ok (.aload_n 0, 1) := dk_42 (dk_at dksX2_streetLine_0 0 rfl rfl)
theorem dX2_streetLine_1 : decode cX2_streetLine 1 = .ok (.aload_n 0, 1) := dk_42 (dk_at dksX2_streetLine_0 1 rfl rfl)
theorem dX2_streetLine_2 : decode cX2_streetLine 2 = .ok (.getfield 108, 3) := dk_180 0 108 (dk_at dksX2_streetLine_0 2 rfl rfl)
theorem dX2_streetLine_5 : decode cX2_streetLine 5 = .ok (.getfield 236, 3) := dk_180 0 236 (dk_at dksX2_streetLine_0 5 rfl rfl)
theorem dX2_streetLine_8 : decode cX2_streetLine 8 = .ok (.bipush 10, 2) := dk_16 10 (dk_at dksX2_streetLine_0 8 rfl rfl)
theorem dX2_streetLine_10 : decode cX2_streetLine 10 = .ok (.if_icmp .ge 7, 3) := dk_162 0 7 (dk_at dksX2_streetLine_0 10 rfl rfl)
theorem dX2_streetLine_13 : decode cX2_streetLine 13 = .ok (.iconst 1, 1) := dk_4 (dk_at dksX2_streetLine_0 13 rfl rfl)
theorem dX2_streetLine_14 : decode cX2_streetLine 14 = .ok (.goto 4, 3) := dk_167 0 4 (dk_at dksX2_streetLine_0 14 rfl rfl)
theorem dX2_streetLine_17 : decode cX2_streetLine 17 = .ok (.iconst 0, 1) := dk_3 (dk_at dksX2_streetLine_0 17 rfl rfl)
theorem dX2_streetLine_18 : decode cX2_streetLine 18 = .ok (.invokevirtual 178, 3) := dk_182 0 178 (dk_at dksX2_streetLine_0 18 rfl rfl)
theorem dX2_streetLine_21 : decode cX2_streetLine 21 = .ok (.aload_n 0, 1) := dk_42 (dk_at dksX2_streetLine_0 21 rfl rfl)
theorem dX2_streetLine_22 : decode cX2_streetLine 22 = .ok (.invokevirtual 239, 3) := dk_182 0 239 (dk_at dksX2_streetLine_1 0 rfl rfl)
theorem dX2_streetLine_25 : decode cX2_streetLine 25 = .ok (.astore_n 1, 1) := dk_76 (dk_at dksX2_streetLine_1 3 rfl rfl)
theorem dX2_streetLine_26 : decode cX2_streetLine 26 = .ok (.aload_n 0, 1) := dk_42 (dk_at dksX2_streetLine_1 4 rfl rfl)
theorem dX2_streetLine_27 : decode cX2_streetLine 27 = .ok (.invokevirtual 119, 3) := dk_182 0 119 (dk_at dksX2_streetLine_1 5 rfl rfl)
theorem dX2_streetLine_30 : decode cX2_streetLine 30 = .ok (.astore_n 2, 1) := dk_77 (dk_at dksX2_streetLine_1 8 rfl rfl)
theorem dX2_streetLine_31 : decode cX2_streetLine 31 = .ok (.aload_n 1, 1) := dk_43 (dk_at dksX2_streetLine_1 9 rfl rfl)
theorem dX2_streetLine_32 : decode cX2_streetLine 32 = .ok (.aload_n 2, 1) := dk_44 (dk_at dksX2_streetLine_1 10 rfl rfl)
theorem dX2_streetLine_33 : decode cX2_streetLine 33 = .ok (.if_acmp .eq 21, 3) := dk_165 0 21 (dk_at dksX2_streetLine_1 11 rfl rfl)
theorem dX2_streetLine_36 : decode cX2_streetLine 36 = .ok (.aload_n 0, 1) := dk_42 (dk_at dksX2_streetLine_1 14 rfl rfl)
theorem dX2_streetLine_37 : decode cX2_streetLine 37 = .ok (.getfield 108, 3) := dk_180 0 108 (dk_at dksX2_streetLine_1 15 rfl rfl)
theorem dX2_streetLine_40 : decode cX2_streetLine 40 = .ok (.aload_n 1, 1) := dk_43 (dk_at dksX2_streetLine_1 18 rfl rfl)
theorem dX2_streetLine_41 : decode cX2_streetLine 41 = .ok (.getfield 220, 3) := dk_180 0 220 (dk_at dksX2_streetLine_1 19 rfl rfl)
theorem dX2_streetLine_44 : decode cX2_streetLine 44 = .ok (.aload_n 2, 1) := dk_44 (dk_at dksX2_streetLine_1 22 rfl rfl)
theorem dX2_streetLine_45 : decode cX2_streetLine 45 = .ok (.getfield 220, 3) := dk_180 0 220 (dk_at dksX2_streetLine_2 0 rfl rfl)
theorem dX2_streetLine_48 : decode cX2_streetLine 48 = .ok (.invokevirtual 241, 3) := dk_182 0 241 (dk_at dksX2_streetLine_2 3 rfl rfl)
theorem dX2_streetLine_51 : decode cX2_streetLine 51 = .ok (.ifCond .le 9, 3) := dk_158 0 9 (dk_at dksX2_streetLine_2 6 rfl rfl)
theorem dX2_streetLine_54 : decode cX2_streetLine 54 = .ok (.aload_n 0, 1) := dk_42 (dk_at dksX2_streetLine_2 9 rfl rfl)
theorem dX2_streetLine_55 : decode cX2_streetLine 55 = .ok (.iconst 3, 1) := dk_6 (dk_at dksX2_streetLine_2 10 rfl rfl)
theorem dX2_streetLine_56 : decode cX2_streetLine 56 = .ok (.invokevirtual 82, 3) := dk_182 0 82 (dk_at dksX2_streetLine_2 11 rfl rfl)
theorem dX2_streetLine_59 : decode cX2_streetLine 59 = .ok (.athrow, 1) := dk_191 (dk_at dksX2_streetLine_2 14 rfl rfl)
theorem dX2_streetLine_60 : decode cX2_streetLine 60 = .ok (.aload_n 0, 1) := dk_42 (dk_at dksX2_streetLine_2 15 rfl rfl)
theorem dX2_streetLine_61 : decode cX2_streetLine 61 = .ok (.invokevirtual 75, 3) := dk_182 0 75 (dk_at dksX2_streetLine_2 16 rfl rfl)
theorem dX2_streetLine_64 : decode cX2_streetLine 64 = .ok (.aload_n 0, 1) := dk_42 (dk_at dksX2_streetLine_2 19 rfl rfl)
theorem dX2_streetLine_65 : decode cX2_streetLine 65 = .ok (.ldc 243, 2) := dk_18 243 (dk_at dksX2_streetLine_2 20 rfl rfl)
theorem dX2_streetLine_67 : decode cX2_streetLine 67 = .ok (.iconst 1, 1) := dk_4 (dk_at dksX2_streetLine_2 22 rfl rfl)
theorem dX2_streetLine_68 : decode cX2_streetLine 68 = .ok (.bipush 99, 2) := dk_16 99 (dk_at dksX2_streetLine_3 0 rfl rfl)
theorem dX2_streetLine_70 : decode cX2_streetLine 70 = .ok (.invokevirtual 168, 3) := dk_182 0 168 (dk_at dksX2_streetLine_3 2 rfl rfl)
theorem dX2_streetLine_73 : decode cX2_streetLine 73 = .ok (.istore_n 3, 1) := dk_62 (dk_at dksX2_streetLine_3 5 rfl rfl)
theorem dX2_streetLine_74 : decode cX2_streetLine 74 = .ok (.aload_n 0, 1) := dk_42 (dk_at dksX2_streetLine_3 6 rfl rfl)
theorem dX2_streetLine_75 : decode cX2_streetLine 75 = .ok (.getfield 108, 3) := dk_180 0 108 (dk_at dksX2_streetLine_3 7 rfl rfl)
theorem dX2_streetLine_78 : decode cX2_streetLine 78 = .ok (.getfield 245, 3) := dk_180 0 245 (dk_at dksX2_streetLine_3 10 rfl rfl)
theorem dX2_streetLine_81 : decode cX2_streetLine 81 = .ok (.bipush 7, 2) := dk_16 7 (dk_at dksX2_streetLine_3 13 rfl rfl)
theorem dX2_streetLine_83 : decode cX2_streetLine 83 = .ok (.aload_n 1, 1) := dk_43 (dk_at dksX2_streetLine_3 15 rfl rfl)
theorem dX2_streetLine_84 : decode cX2_streetLine 84 = .ok (.getfield 220, 3) := dk_180 0 220 (dk_at dksX2_streetLine_3 16 rfl rfl)
theorem dX2_streetLine_87 : decode cX2_streetLine 87 = .ok (.imul, 1) := dk_104 (dk_at dksX2_streetLine_3 19 rfl rfl)
theorem dX2_streetLine_88 : decode cX2_streetLine 88 = .ok (.aload_n 2, 1) := dk_44 (dk_at dksX2_streetLine_3 20 rfl rfl)
theorem dX2_streetLine_89 : decode cX2_streetLine 89 = .ok (.getfield 220, 3) := dk_180 0 220 (dk_at dksX2_streetLine_3 21 rfl rfl)
theorem dX2_streetLine_92 : decode cX2_streetLine 92 = .ok (.iadd, 1) := dk_96 (dk_at dksX2_streetLine_4 0 rfl rfl)
theorem dX2_streetLine_93 : decode cX2_streetLine 93 = .ok (.iload_n 3, 1) := dk_29 (dk_at dksX2_streetLine_4 1 rfl rfl)
theorem dX2_streetLine_94 : decode cX2_streetLine 94 = .ok (.iastore, 1) := dk_79 (dk_at dksX2_streetLine_4 2 rfl rfl)
theorem dX2_streetLine_95 : decode cX2_streetLine 95 = .ok (.aload_n 0, 1) := dk_42 (dk_at dksX2_streetLine_4 3 rfl rfl)
theorem dX2_streetLine_96 : decode cX2_streetLine 96 = .ok (.getfield 108, 3) := dk_180 0 108 (dk_at dksX2_streetLine_4 4 rfl rfl)
theorem dX2_streetLine_99 : decode cX2_streetLine 99 = .ok (.getfield 245, 3) := dk_180 0 245 (dk_at dksX2_streetLine_4 7 rfl rfl)
theorem dX2_streetLine_102 : decode cX2_streetLine 102 = .ok (.bipush 7, 2) := dk_16 7 (dk_at dksX2_streetLine_4 10 rfl rfl)
theorem dX2_streetLine_104 : decode cX2_streetLine 104 = .ok (.aload_n 2, 1) := dk_44 (dk_at dksX2_streetLine_4 12 rfl rfl)
theorem dX2_streetLine_105 : decode cX2_streetLine 105 = .ok (.getfield 220, 3) := dk_180 0 220 (dk_at dksX2_streetLine_4 13 rfl rfl)
theorem dX2_streetLine_108 : decode cX2_streetLine 108 = .ok (.imul, 1) := dk_104 (dk_at dksX2_streetLine_4 16 rfl rfl)
theorem dX2_streetLine_109 : decode cX2_streetLine 109 = .ok (.aload_n 1, 1) := dk_43 (dk_at dksX2_streetLine_4 17 rfl rfl)
theorem dX2_streetLine_110 : decode cX2_streetLine 110 = .ok (.getfield 220, 3) := dk_180 0 220 (dk_at dksX2_streetLine_4 18 rfl rfl)
theorem dX2_streetLine_113 : decode cX2_streetLine 113 = .ok (.iadd, 1) := dk_96 (dk_at dksX2_streetLine_4 21 rfl rfl)
theorem dX2_streetLine_114 : decode cX2_streetLine 114 = .ok (.iload_n 3, 1) := dk_29 (dk_at dksX2_streetLine_4 22 rfl rfl)
theorem dX2_streetLine_115 : decode cX2_streetLine 115 = .ok (.iastore, 1) := dk_79 (dk_at dksX2_streetLine_4 23 rfl rfl)
theorem dX2_streetLine_116 : decode cX2_streetLine 116 = .ok (.aload_n 0, 1) := dk_42 (dk_at dksX2_streetLine_5 0 rfl rfl)
theorem dX2_streetLine_117 : decode cX2_streetLine 117 = .ok (.getfield 108, 3) := dk_180 0 108 (dk_at dksX2_streetLine_5 1 rfl rfl)
theorem dX2_streetLine_120 : decode cX2_streetLine 120 = .ok (.dup, 1) := dk_89 (dk_at dksX2_streetLine_5 4 rfl rfl)
theorem dX2_streetLine_121 : decode cX2_streetLine 121 = .ok (.getfield 236, 3) := dk_180 0 236 (dk_at dksX2_streetLine_5 5 rfl rfl)
theorem dX2_streetLine_124 : decode cX2_streetLine 124 = .ok (.iconst 1, 1) := dk_4 (dk_at dksX2_streetLine_5 8 rfl rfl)
theorem dX2_streetLine_125 : decode cX2_streetLine 125 = .ok (.iadd, 1) := dk_96 (dk_at dksX2_streetLine_5 9 rfl rfl)
theorem dX2_streetLine_126 : decode cX2_streetLine 126 = .ok (.putfield 236, 3) := dk_181 0 236 (dk_at dksX2_streetLine_5 10 rfl rfl)
theorem dX2_streetLine_129 : decode cX2_streetLine 129 = .ok (.return_, 1) := dk_177 (dk_at dksX2_streetLine_5 13 rfl rfl)
abbrev cX2_house : ByteArray := prog_11_method_13_code
def yX2_house : MethodName := ⟨RX2, "house", "()LWrongRoom$House;"⟩
def dkwX2_house_0 : List UInt8 := [42, 182, 0, 119, 76, 42, 182, 0, 75, 43, 176]
abbrev dktX2_house_0 : List UInt8 := dkwX2_house_0 ++ []
theorem dksX2_house_0 : cX2_house.data.toList.drop 0 = dktX2_house_0 := by decide +kernel
theorem dX2_house_0 : decode cX2_house 0 = .ok (.aload_n 0, 1) := dk_42 (dk_at dksX2_house_0 0 rfl rfl)
theorem dX2_house_1 : decode cX2_house 1 = .ok (.invokevirtual 119, 3) := dk_182 0 119 (dk_at dksX2_house_0 1 rfl rfl)
theorem dX2_house_4 : decode cX2_house 4 = .ok (.astore_n 1, 1) := dk_76 (dk_at dksX2_house_0 4 rfl rfl)
theorem dX2_house_5 : decode cX2_house 5 = .ok (.aload_n 0, 1) := dk_42 (dk_at dksX2_house_0 5 rfl rfl)
theorem dX2_house_6 : decode cX2_house 6 = .ok (.invokevirtual 75, 3) := dk_182 0 75 (dk_at dksX2_house_0 6 rfl rfl)
theorem dX2_house_9 : decode cX2_house 9 = .ok (.aload_n 1, 1) := dk_43 (dk_at dksX2_house_0 9 rfl rfl)
theorem dX2_house_10 : decode cX2_house 10 = .ok (.areturn, 1) := dk_176 (dk_at dksX2_house_0 10 rfl rfl)
abbrev cX2_personLine : ByteArray := prog_11_method_24_code
def yX2_personLine : MethodName := ⟨RX2, "personLine", "()V"⟩
def dkwX2_personLine_4 : List UInt8 := [180, 0, 249, 4, 96, 181, 0, 249, 177]
abbrev dktX2_personLine_4 : List UInt8 := dkwX2_personLine_4 ++ []
def dkwX2_personLine_3 : List UInt8 := [181, 1, 4, 42, 180, 0, 108, 180, 1, 5, 42, 180, 0, 108, 180, 0, 249, 43, 83, 42, 180, 0, 108, 89]
abbrev dktX2_personLine_3 : List UInt8 := dkwX2_personLine_3 ++ dktX2_personLine_4
def dkwX2_personLine_2 : List UInt8 := [182, 0, 239, 180, 0, 220, 181, 1, 1, 42, 19, 1, 3, 182, 0, 123, 43, 42, 182, 0, 239, 180, 0, 220]
abbrev dktX2_personLine_2 : List UInt8 := dkwX2_personLine_2 ++ dktX2_personLine_3
def dkwX2_personLine_1 : List UInt8 := [42, 182, 0, 182, 42, 180, 0, 108, 180, 0, 249, 183, 0, 254, 76, 42, 18, 255, 182, 0, 123, 43, 42]
abbrev dktX2_personLine_1 : List UInt8 := dkwX2_personLine_1 ++ dktX2_personLine_2
def dkwX2_personLine_0 : List UInt8 := [42, 42, 180, 0, 108, 180, 0, 249, 7, 162, 0, 7, 4, 167, 0, 4, 3, 182, 0, 178, 187, 0, 252, 89]
abbrev dktX2_personLine_0 : List UInt8 := dkwX2_personLine_0 ++ dktX2_personLine_1
theorem dksX2_personLine_0 : cX2_personLine.data.toList.drop 0 = dktX2_personLine_0 := by decide +kernel
theorem dksX2_personLine_1 : cX2_personLine.data.toList.drop 24 = dktX2_personLine_1 := dk_seg dksX2_personLine_0 24 rfl rfl
theorem dksX2_personLine_2 : cX2_personLine.data.toList.drop 47 = dktX2_personLine_2 := dk_seg dksX2_personLine_1 23 rfl rfl
theorem dksX2_personLine_3 : cX2_personLine.data.toList.drop 71 = dktX2_personLine_3 := dk_seg dksX2_personLine_2 24 rfl rfl
theorem dksX2_personLine_4 : cX2_personLine.data.toList.drop 95 = dktX2_personLine_4 := dk_seg dksX2_personLine_3 24 rfl rfl
theorem dX2_personLine_0 : decode cX2_personLine 0 = .ok (.aload_n 0, 1) := dk_42 (dk_at dksX2_personLine_0 0 rfl rfl)
theorem dX2_personLine_1 : decode cX2_personLine 1 = .ok (.aload_n 0, 1) := dk_42 (dk_at dksX2_personLine_0 1 rfl rfl)
theorem dX2_personLine_2 : decode cX2_personLine 2 = .ok (.getfield 108, 3) := dk_180 0 108 (dk_at dksX2_personLine_0 2 rfl rfl)
theorem dX2_personLine_5 : decode cX2_personLine 5 = .ok (.getfield 249, 3) := dk_180 0 249 (dk_at dksX2_personLine_0 5 rfl rfl)
theorem dX2_personLine_8 : decode cX2_personLine 8 = .ok (.iconst 4, 1) := dk_7 (dk_at dksX2_personLine_0 8 rfl rfl)
theorem dX2_personLine_9 : decode cX2_personLine 9 = .ok (.if_icmp .ge 7, 3) := dk_162 0 7 (dk_at dksX2_personLine_0 9 rfl rfl)
theorem dX2_personLine_12 : decode cX2_personLine 12 = .ok (.iconst 1, 1) := dk_4 (dk_at dksX2_personLine_0 12 rfl rfl)
theorem dX2_personLine_13 : decode cX2_personLine 13 = .ok (.goto 4, 3) := dk_167 0 4 (dk_at dksX2_personLine_0 13 rfl rfl)
theorem dX2_personLine_16 : decode cX2_personLine 16 = .ok (.iconst 0, 1) := dk_3 (dk_at dksX2_personLine_0 16 rfl rfl)
theorem dX2_personLine_17 : decode cX2_personLine 17 = .ok (.invokevirtual 178, 3) := dk_182 0 178 (dk_at dksX2_personLine_0 17 rfl rfl)
theorem dX2_personLine_20 : decode cX2_personLine 20 = .ok (.new 252, 3) := dk_187 0 252 (dk_at dksX2_personLine_0 20 rfl rfl)
theorem dX2_personLine_23 : decode cX2_personLine 23 = .ok (.dup, 1) := dk_89 (dk_at dksX2_personLine_0 23 rfl rfl)
theorem dX2_personLine_24 : decode cX2_personLine 24 = .ok (.aload_n 0, 1) := dk_42 (dk_at dksX2_personLine_1 0 rfl rfl)
theorem dX2_personLine_25 : decode cX2_personLine 25 = .ok (.invokevirtual 182, 3) := dk_182 0 182 (dk_at dksX2_personLine_1 1 rfl rfl)
theorem dX2_personLine_28 : decode cX2_personLine 28 = .ok (.aload_n 0, 1) := dk_42 (dk_at dksX2_personLine_1 4 rfl rfl)
theorem dX2_personLine_29 : decode cX2_personLine 29 = .ok (.getfield 108, 3) := dk_180 0 108 (dk_at dksX2_personLine_1 5 rfl rfl)
theorem dX2_personLine_32 : decode cX2_personLine 32 = .ok (.getfield 249, 3) := dk_180 0 249 (dk_at dksX2_personLine_1 8 rfl rfl)
theorem dX2_personLine_35 : decode cX2_personLine 35 = .ok (.invokespecial 254, 3) := dk_183 0 254 (dk_at dksX2_personLine_1 11 rfl rfl)
theorem dX2_personLine_38 : decode cX2_personLine 38 = .ok (.astore_n 1, 1) := dk_76 (dk_at dksX2_personLine_1 14 rfl rfl)
theorem dX2_personLine_39 : decode cX2_personLine 39 = .ok (.aload_n 0, 1) := dk_42 (dk_at dksX2_personLine_1 15 rfl rfl)
theorem dX2_personLine_40 : decode cX2_personLine 40 = .ok (.ldc 255, 2) := dk_18 255 (dk_at dksX2_personLine_1 16 rfl rfl)
theorem dX2_personLine_42 : decode cX2_personLine 42 = .ok (.invokevirtual 123, 3) := dk_182 0 123 (dk_at dksX2_personLine_1 18 rfl rfl)
theorem dX2_personLine_45 : decode cX2_personLine 45 = .ok (.aload_n 1, 1) := dk_43 (dk_at dksX2_personLine_1 21 rfl rfl)
theorem dX2_personLine_46 : decode cX2_personLine 46 = .ok (.aload_n 0, 1) := dk_42 (dk_at dksX2_personLine_1 22 rfl rfl)
theorem dX2_personLine_47 : decode cX2_personLine 47 = .ok (.invokevirtual 239, 3) := dk_182 0 239 (dk_at dksX2_personLine_2 0 rfl rfl)
theorem dX2_personLine_50 : decode cX2_personLine 50 = .ok (.getfield 220, 3) := dk_180 0 220 (dk_at dksX2_personLine_2 3 rfl rfl)
theorem dX2_personLine_53 : decode cX2_personLine 53 = .ok (.putfield 257, 3) := dk_181 1 1 (dk_at dksX2_personLine_2 6 rfl rfl)
theorem dX2_personLine_56 : decode cX2_personLine 56 = .ok (.aload_n 0, 1) := dk_42 (dk_at dksX2_personLine_2 9 rfl rfl)
theorem dX2_personLine_57 : decode cX2_personLine 57 = .ok (.ldc_w 259, 3) := dk_19 1 3 (dk_at dksX2_personLine_2 10 rfl rfl)
theorem dX2_personLine_60 : decode cX2_personLine 60 = .ok (.invokevirtual 123, 3) := dk_182 0 123 (dk_at dksX2_personLine_2 13 rfl rfl)
theorem dX2_personLine_63 : decode cX2_personLine 63 = .ok (.aload_n 1, 1) := dk_43 (dk_at dksX2_personLine_2 16 rfl rfl)
theorem dX2_personLine_64 : decode cX2_personLine 64 = .ok (.aload_n 0, 1) := dk_42 (dk_at dksX2_personLine_2 17 rfl rfl)
theorem dX2_personLine_65 : decode cX2_personLine 65 = .ok (.invokevirtual 239, 3) := dk_182 0 239 (dk_at dksX2_personLine_2 18 rfl rfl)
theorem dX2_personLine_68 : decode cX2_personLine 68 = .ok (.getfield 220, 3) := dk_180 0 220 (dk_at dksX2_personLine_2 21 rfl rfl)
theorem dX2_personLine_71 : decode cX2_personLine 71 = .ok (.putfield 260, 3) := dk_181 1 4 (dk_at dksX2_personLine_3 0 rfl rfl)
theorem dX2_personLine_74 : decode cX2_personLine 74 = .ok (.aload_n 0, 1) := dk_42 (dk_at dksX2_personLine_3 3 rfl rfl)
theorem dX2_personLine_75 : decode cX2_personLine 75 = .ok (.getfield 108, 3) := dk_180 0 108 (dk_at dksX2_personLine_3 4 rfl rfl)
theorem dX2_personLine_78 : decode cX2_personLine 78 = .ok (.getfield 261, 3) := dk_180 1 5 (dk_at dksX2_personLine_3 7 rfl rfl)
theorem dX2_personLine_81 : decode cX2_personLine 81 = .ok (.aload_n 0, 1) := dk_42 (dk_at dksX2_personLine_3 10 rfl rfl)
theorem dX2_personLine_82 : decode cX2_personLine 82 = .ok (.getfield 108, 3) := dk_180 0 108 (dk_at dksX2_personLine_3 11 rfl rfl)
theorem dX2_personLine_85 : decode cX2_personLine 85 = .ok (.getfield 249, 3) := dk_180 0 249 (dk_at dksX2_personLine_3 14 rfl rfl)
theorem dX2_personLine_88 : decode cX2_personLine 88 = .ok (.aload_n 1, 1) := dk_43 (dk_at dksX2_personLine_3 17 rfl rfl)
theorem dX2_personLine_89 : decode cX2_personLine 89 = .ok (.aastore, 1) := dk_83 (dk_at dksX2_personLine_3 18 rfl rfl)
theorem dX2_personLine_90 : decode cX2_personLine 90 = .ok (.aload_n 0, 1) := dk_42 (dk_at dksX2_personLine_3 19 rfl rfl)
theorem dX2_personLine_91 : decode cX2_personLine 91 = .ok (.getfield 108, 3) := dk_180 0 108 (dk_at dksX2_personLine_3 20 rfl rfl)
theorem dX2_personLine_94 : decode cX2_personLine 94 = .ok (.dup, 1) := dk_89 (dk_at dksX2_personLine_3 23 rfl rfl)
theorem dX2_personLine_95 : decode cX2_personLine 95 = .ok (.getfield 249, 3) := dk_180 0 249 (dk_at dksX2_personLine_4 0 rfl rfl)
theorem dX2_personLine_98 : decode cX2_personLine 98 = .ok (.iconst 1, 1) := dk_4 (dk_at dksX2_personLine_4 3 rfl rfl)
theorem dX2_personLine_99 : decode cX2_personLine 99 = .ok (.iadd, 1) := dk_96 (dk_at dksX2_personLine_4 4 rfl rfl)
theorem dX2_personLine_100 : decode cX2_personLine 100 = .ok (.putfield 249, 3) := dk_181 0 249 (dk_at dksX2_personLine_4 5 rfl rfl)
theorem dX2_personLine_103 : decode cX2_personLine 103 = .ok (.return_, 1) := dk_177 (dk_at dksX2_personLine_4 8 rfl rfl)
abbrev cX2_signLine : ByteArray := prog_11_method_26_code
def yX2_signLine : MethodName := ⟨RX2, "signLine", "()V"⟩
def dkwX2_signLine_2 : List UInt8 := [180, 0, 108, 89, 180, 1, 16, 4, 96, 181, 1, 16, 177]
abbrev dktX2_signLine_2 : List UInt8 := dkwX2_signLine_2 ++ []
def dkwX2_signLine_1 : List UInt8 := [182, 0, 239, 180, 0, 220, 60, 42, 187, 1, 19, 89, 27, 42, 182, 0, 203, 183, 1, 21, 182, 1, 24, 42]
abbrev dktX2_signLine_1 : List UInt8 := dkwX2_signLine_1 ++ dktX2_signLine_2
def dkwX2_signLine_0 : List UInt8 := [42, 42, 180, 0, 108, 180, 1, 16, 16, 8, 162, 0, 7, 4, 167, 0, 4, 3, 182, 0, 178, 42]
abbrev dktX2_signLine_0 : List UInt8 := dkwX2_signLine_0 ++ dktX2_signLine_1
theorem dksX2_signLine_0 : cX2_signLine.data.toList.drop 0 = dktX2_signLine_0 := by decide +kernel
theorem dksX2_signLine_1 : cX2_signLine.data.toList.drop 22 = dktX2_signLine_1 := dk_seg dksX2_signLine_0 22 rfl rfl
theorem dksX2_signLine_2 : cX2_signLine.data.toList.drop 46 = dktX2_signLine_2 := dk_seg dksX2_signLine_1 24 rfl rfl
theorem dX2_signLine_0 : decode cX2_signLine 0 = .ok (.aload_n 0, 1) := dk_42 (dk_at dksX2_signLine_0 0 rfl rfl)
theorem dX2_signLine_1 : decode cX2_signLine 1 = .ok (.aload_n 0, 1) := dk_42 (dk_at dksX2_signLine_0 1 rfl rfl)
theorem dX2_signLine_2 : decode cX2_signLine 2 = .ok (.getfield 108, 3) := dk_180 0 108 (dk_at dksX2_signLine_0 2 rfl rfl)
theorem dX2_signLine_5 : decode cX2_signLine 5 = .ok (.getfield 272, 3) := dk_180 1 16 (dk_at dksX2_signLine_0 5 rfl rfl)
theorem dX2_signLine_8 : decode cX2_signLine 8 = .ok (.bipush 8, 2) := dk_16 8 (dk_at dksX2_signLine_0 8 rfl rfl)
theorem dX2_signLine_10 : decode cX2_signLine 10 = .ok (.if_icmp .ge 7, 3) := dk_162 0 7 (dk_at dksX2_signLine_0 10 rfl rfl)
theorem dX2_signLine_13 : decode cX2_signLine 13 = .ok (.iconst 1, 1) := dk_4 (dk_at dksX2_signLine_0 13 rfl rfl)
theorem dX2_signLine_14 : decode cX2_signLine 14 = .ok (.goto 4, 3) := dk_167 0 4 (dk_at dksX2_signLine_0 14 rfl rfl)
theorem dX2_signLine_17 : decode cX2_signLine 17 = .ok (.iconst 0, 1) := dk_3 (dk_at dksX2_signLine_0 17 rfl rfl)
theorem dX2_signLine_18 : decode cX2_signLine 18 = .ok (.invokevirtual 178, 3) := dk_182 0 178 (dk_at dksX2_signLine_0 18 rfl rfl)
theorem dX2_signLine_21 : decode cX2_signLine 21 = .ok (.aload_n 0, 1) := dk_42 (dk_at dksX2_signLine_0 21 rfl rfl)
theorem dX2_signLine_22 : decode cX2_signLine 22 = .ok (.invokevirtual 239, 3) := dk_182 0 239 (dk_at dksX2_signLine_1 0 rfl rfl)
theorem dX2_signLine_25 : decode cX2_signLine 25 = .ok (.getfield 220, 3) := dk_180 0 220 (dk_at dksX2_signLine_1 3 rfl rfl)
theorem dX2_signLine_28 : decode cX2_signLine 28 = .ok (.istore_n 1, 1) := dk_60 (dk_at dksX2_signLine_1 6 rfl rfl)
theorem dX2_signLine_29 : decode cX2_signLine 29 = .ok (.aload_n 0, 1) := dk_42 (dk_at dksX2_signLine_1 7 rfl rfl)
theorem dX2_signLine_30 : decode cX2_signLine 30 = .ok (.new 275, 3) := dk_187 1 19 (dk_at dksX2_signLine_1 8 rfl rfl)
theorem dX2_signLine_33 : decode cX2_signLine 33 = .ok (.dup, 1) := dk_89 (dk_at dksX2_signLine_1 11 rfl rfl)
theorem dX2_signLine_34 : decode cX2_signLine 34 = .ok (.iload_n 1, 1) := dk_27 (dk_at dksX2_signLine_1 12 rfl rfl)
theorem dX2_signLine_35 : decode cX2_signLine 35 = .ok (.aload_n 0, 1) := dk_42 (dk_at dksX2_signLine_1 13 rfl rfl)
theorem dX2_signLine_36 : decode cX2_signLine 36 = .ok (.invokevirtual 203, 3) := dk_182 0 203 (dk_at dksX2_signLine_1 14 rfl rfl)
theorem dX2_signLine_39 : decode cX2_signLine 39 = .ok (.invokespecial 277, 3) := dk_183 1 21 (dk_at dksX2_signLine_1 17 rfl rfl)
theorem dX2_signLine_42 : decode cX2_signLine 42 = .ok (.invokevirtual 280, 3) := dk_182 1 24 (dk_at dksX2_signLine_1 20 rfl rfl)
theorem dX2_signLine_45 : decode cX2_signLine 45 = .ok (.aload_n 0, 1) := dk_42 (dk_at dksX2_signLine_1 23 rfl rfl)
theorem dX2_signLine_46 : decode cX2_signLine 46 = .ok (.getfield 108, 3) := dk_180 0 108 (dk_at dksX2_signLine_2 0 rfl rfl)
theorem dX2_signLine_49 : decode cX2_signLine 49 = .ok (.dup, 1) := dk_89 (dk_at dksX2_signLine_2 3 rfl rfl)
theorem dX2_signLine_50 : decode cX2_signLine 50 = .ok (.getfield 272, 3) := dk_180 1 16 (dk_at dksX2_signLine_2 4 rfl rfl)
theorem dX2_signLine_53 : decode cX2_signLine 53 = .ok (.iconst 1, 1) := dk_4 (dk_at dksX2_signLine_2 7 rfl rfl)
theorem dX2_signLine_54 : decode cX2_signLine 54 = .ok (.iadd, 1) := dk_96 (dk_at dksX2_signLine_2 8 rfl rfl)
theorem dX2_signLine_55 : decode cX2_signLine 55 = .ok (.putfield 272, 3) := dk_181 1 16 (dk_at dksX2_signLine_2 9 rfl rfl)
theorem dX2_signLine_58 : decode cX2_signLine 58 = .ok (.return_, 1) := dk_177 (dk_at dksX2_signLine_2 12 rfl rfl)
abbrev cX2_note : ByteArray := prog_11_method_25_code
def yX2_note : MethodName := ⟨RX2, "note", "(LWrongRoom$Notice;)V"⟩
def dkwX2_note_0 : List UInt8 := [42, 180, 0, 108, 180, 1, 9, 42, 180, 0, 108, 182, 1, 13, 43, 83, 177]
abbrev dktX2_note_0 : List UInt8 := dkwX2_note_0 ++ []
theorem dksX2_note_0 : cX2_note.data.toList.drop 0 = dktX2_note_0 := by decide +kernel
theorem dX2_note_0 : decode cX2_note 0 = .ok (.aload_n 0, 1) := dk_42 (dk_at dksX2_note_0 0 rfl rfl)
theorem dX2_note_1 : decode cX2_note 1 = .ok (.getfield 108, 3) := dk_180 0 108 (dk_at dksX2_note_0 1 rfl rfl)
theorem dX2_note_4 : decode cX2_note 4 = .ok (.getfield 265, 3) := dk_180 1 9 (dk_at dksX2_note_0 4 rfl rfl)
theorem dX2_note_7 : decode cX2_note 7 = .ok (.aload_n 0, 1) := dk_42 (dk_at dksX2_note_0 7 rfl rfl)
theorem dX2_note_8 : decode cX2_note 8 = .ok (.getfield 108, 3) := dk_180 0 108 (dk_at dksX2_note_0 8 rfl rfl)
theorem dX2_note_11 : decode cX2_note 11 = .ok (.invokevirtual 269, 3) := dk_182 1 13 (dk_at dksX2_note_0 11 rfl rfl)
theorem dX2_note_14 : decode cX2_note 14 = .ok (.aload_n 1, 1) := dk_43 (dk_at dksX2_note_0 14 rfl rfl)
theorem dX2_note_15 : decode cX2_note 15 = .ok (.aastore, 1) := dk_83 (dk_at dksX2_note_0 15 rfl rfl)
theorem dX2_note_16 : decode cX2_note 16 = .ok (.return_, 1) := dk_177 (dk_at dksX2_note_0 16 rfl rfl)
abbrev cX2_noiseLine : ByteArray := prog_11_method_27_code
def yX2_noiseLine : MethodName := ⟨RX2, "noiseLine", "()V"⟩
def dkwX2_noiseLine_2 : List UInt8 := [180, 0, 108, 89, 180, 1, 28, 4, 96, 181, 1, 28, 177]
abbrev dktX2_noiseLine_2 : List UInt8 := dkwX2_noiseLine_2 ++ []
def dkwX2_noiseLine_1 : List UInt8 := [180, 0, 220, 60, 42, 187, 1, 31, 89, 27, 42, 4, 16, 9, 182, 0, 127, 183, 1, 33, 182, 1, 24, 42]
abbrev dktX2_noiseLine_1 : List UInt8 := dkwX2_noiseLine_1 ++ dktX2_noiseLine_2
def dkwX2_noiseLine_0 : List UInt8 := [42, 42, 180, 0, 108, 180, 1, 28, 7, 162, 0, 7, 4, 167, 0, 4, 3, 182, 0, 178, 42, 182, 0, 239]
abbrev dktX2_noiseLine_0 : List UInt8 := dkwX2_noiseLine_0 ++ dktX2_noiseLine_1
theorem dksX2_noiseLine_0 : cX2_noiseLine.data.toList.drop 0 = dktX2_noiseLine_0 := by decide +kernel
theorem dksX2_noiseLine_1 : cX2_noiseLine.data.toList.drop 24 = dktX2_noiseLine_1 := dk_seg dksX2_noiseLine_0 24 rfl rfl
theorem dksX2_noiseLine_2 : cX2_noiseLine.data.toList.drop 48 = dktX2_noiseLine_2 := dk_seg dksX2_noiseLine_1 24 rfl rfl
theorem dX2_noiseLine_0 : decode cX2_noiseLine 0 = .ok (.aload_n 0, 1) := dk_42 (dk_at dksX2_noiseLine_0 0 rfl rfl)
theorem dX2_noiseLine_1 : decode cX2_noiseLine 1 = .ok (.aload_n 0, 1) := dk_42 (dk_at dksX2_noiseLine_0 1 rfl rfl)
theorem dX2_noiseLine_2 : decode cX2_noiseLine 2 = .ok (.getfield 108, 3) := dk_180 0 108 (dk_at dksX2_noiseLine_0 2 rfl rfl)
theorem dX2_noiseLine_5 : decode cX2_noiseLine 5 = .ok (.getfield 284, 3) := dk_180 1 28 (dk_at dksX2_noiseLine_0 5 rfl rfl)
theorem dX2_noiseLine_8 : decode cX2_noiseLine 8 = .ok (.iconst 4, 1) := dk_7 (dk_at dksX2_noiseLine_0 8 rfl rfl)
theorem dX2_noiseLine_9 : decode cX2_noiseLine 9 = .ok (.if_icmp .ge 7, 3) := dk_162 0 7 (dk_at dksX2_noiseLine_0 9 rfl rfl)
theorem dX2_noiseLine_12 : decode cX2_noiseLine 12 = .ok (.iconst 1, 1) := dk_4 (dk_at dksX2_noiseLine_0 12 rfl rfl)
theorem dX2_noiseLine_13 : decode cX2_noiseLine 13 = .ok (.goto 4, 3) := dk_167 0 4 (dk_at dksX2_noiseLine_0 13 rfl rfl)
theorem dX2_noiseLine_16 : decode cX2_noiseLine 16 = .ok (.iconst 0, 1) := dk_3 (dk_at dksX2_noiseLine_0 16 rfl rfl)
theorem dX2_noiseLine_17 : decode cX2_noiseLine 17 = .ok (.invokevirtual 178, 3) := dk_182 0 178 (dk_at dksX2_noiseLine_0 17 rfl rfl)
theorem dX2_noiseLine_20 : decode cX2_noiseLine 20 = .ok (.aload_n 0, 1) := dk_42 (dk_at dksX2_noiseLine_0 20 rfl rfl)
theorem dX2_noiseLine_21 : decode cX2_noiseLine 21 = .ok (.invokevirtual 239, 3) := dk_182 0 239 (dk_at dksX2_noiseLine_0 21 rfl rfl)
theorem dX2_noiseLine_24 : decode cX2_noiseLine 24 = .ok (.getfield 220, 3) := dk_180 0 220 (dk_at dksX2_noiseLine_1 0 rfl rfl)
theorem dX2_noiseLine_27 : decode cX2_noiseLine 27 = .ok (.istore_n 1, 1) := dk_60 (dk_at dksX2_noiseLine_1 3 rfl rfl)
theorem dX2_noiseLine_28 : decode cX2_noiseLine 28 = .ok (.aload_n 0, 1) := dk_42 (dk_at dksX2_noiseLine_1 4 rfl rfl)
theorem dX2_noiseLine_29 : decode cX2_noiseLine 29 = .ok (.new 287, 3) := dk_187 1 31 (dk_at dksX2_noiseLine_1 5 rfl rfl)
theorem dX2_noiseLine_32 : decode cX2_noiseLine 32 = .ok (.dup, 1) := dk_89 (dk_at dksX2_noiseLine_1 8 rfl rfl)
theorem dX2_noiseLine_33 : decode cX2_noiseLine 33 = .ok (.iload_n 1, 1) := dk_27 (dk_at dksX2_noiseLine_1 9 rfl rfl)
theorem dX2_noiseLine_34 : decode cX2_noiseLine 34 = .ok (.aload_n 0, 1) := dk_42 (dk_at dksX2_noiseLine_1 10 rfl rfl)
theorem dX2_noiseLine_35 : decode cX2_noiseLine 35 = .ok (.iconst 1, 1) := dk_4 (dk_at dksX2_noiseLine_1 11 rfl rfl)
theorem dX2_noiseLine_36 : decode cX2_noiseLine 36 = .ok (.bipush 9, 2) := dk_16 9 (dk_at dksX2_noiseLine_1 12 rfl rfl)
theorem dX2_noiseLine_38 : decode cX2_noiseLine 38 = .ok (.invokevirtual 127, 3) := dk_182 0 127 (dk_at dksX2_noiseLine_1 14 rfl rfl)
theorem dX2_noiseLine_41 : decode cX2_noiseLine 41 = .ok (.invokespecial 289, 3) := dk_183 1 33 (dk_at dksX2_noiseLine_1 17 rfl rfl)
theorem dX2_noiseLine_44 : decode cX2_noiseLine 44 = .ok (.invokevirtual 280, 3) := dk_182 1 24 (dk_at dksX2_noiseLine_1 20 rfl rfl)
theorem dX2_noiseLine_47 : decode cX2_noiseLine 47 = .ok (.aload_n 0, 1) := dk_42 (dk_at dksX2_noiseLine_1 23 rfl rfl)
theorem dX2_noiseLine_48 : decode cX2_noiseLine 48 = .ok (.getfield 108, 3) := dk_180 0 108 (dk_at dksX2_noiseLine_2 0 rfl rfl)
theorem dX2_noiseLine_51 : decode cX2_noiseLine 51 = .ok (.dup, 1) := dk_89 (dk_at dksX2_noiseLine_2 3 rfl rfl)
theorem dX2_noiseLine_52 : decode cX2_noiseLine 52 = .ok (.getfield 284, 3) := dk_180 1 28 (dk_at dksX2_noiseLine_2 4 rfl rfl)
theorem dX2_noiseLine_55 : decode cX2_noiseLine 55 = .ok (.iconst 1, 1) := dk_4 (dk_at dksX2_noiseLine_2 7 rfl rfl)
theorem dX2_noiseLine_56 : decode cX2_noiseLine 56 = .ok (.iadd, 1) := dk_96 (dk_at dksX2_noiseLine_2 8 rfl rfl)
theorem dX2_noiseLine_57 : decode cX2_noiseLine 57 = .ok (.putfield 284, 3) := dk_181 1 28 (dk_at dksX2_noiseLine_2 9 rfl rfl)
theorem dX2_noiseLine_60 : decode cX2_noiseLine 60 = .ok (.return_, 1) := dk_177 (dk_at dksX2_noiseLine_2 12 rfl rfl)
theorem q112 : (Jvm.Cond.initialized "WrongRoom$Reader") ∈ lw_all := lw_g (lw_at lw_m1 2 rfl) rfl
theorem q150 : (Jvm.Cond.instantiable "WrongRoom$Reader" (11 : Nat)) ∈ lw_all := lw_g (lw_at lw_m1 40 rfl) rfl
theorem q152 : (Jvm.Cond.instanceMethod ({ cls := "WrongRoom$Reader", name := "<init>", desc := "([B)V" } : Jvm.MethodName)) ∈ lw_all := lw_g (lw_at lw_m1 42 rfl) rfl
theorem q153 : (Jvm.Cond.code ({ cls := "WrongRoom$Reader", name := "<init>", desc := "([B)V" } : Jvm.MethodName) prog_11_method_1_code (2 : Nat) (Option.none : Option Jvm.ClassFile.FieldType)) ∈ lw_all := lw_g (lw_at lw_m1 43 rfl) rfl
theorem q154 : (Jvm.Cond.methodLink "WrongRoom$Reader" (3 : Nat) ({ cls := "java/lang/Object", name := "<init>", desc := "()V" } : Jvm.MethodName)) ∈ lw_all := lw_g (lw_at lw_m1 44 rfl) rfl
theorem q155 : (Jvm.Cond.classLink "WrongRoom$Reader" (9 : Nat) "WrongRoom$Refused") ∈ lw_all := lw_g (lw_at lw_m1 45 rfl) rfl
theorem q195 : (Jvm.Cond.methodLink "WrongRoom$Reader" (11 : Nat) ({ cls := "WrongRoom$Refused", name := "<init>", desc := "()V" } : Jvm.MethodName)) ∈ lw_all := lw_g (lw_at lw_m1 85 rfl) rfl
theorem q229 : (Jvm.Cond.fieldLink "WrongRoom$Reader" (12 : Nat) "WrongRoom$Reader" "wrong" "LWrongRoom$Refused;") ∈ lw_all := lw_g (lw_at lw_m1 119 rfl) rfl
theorem q230 : (Jvm.Cond.fieldLink "WrongRoom$Reader" (22 : Nat) "WrongRoom$Reader" "text" "[B") ∈ lw_all := lw_g (lw_at lw_m1 120 rfl) rfl
theorem q231 : (Jvm.Cond.fieldLink "WrongRoom$Reader" (18 : Nat) "WrongRoom$Reader" "letters" "[C") ∈ lw_all := lw_g (lw_at lw_m1 121 rfl) rfl
theorem q232 : (Jvm.Cond.fieldLink "WrongRoom$Reader" (33 : Nat) "WrongRoom$Reader" "size" "I") ∈ lw_all := lw_g (lw_at lw_m1 122 rfl) rfl
theorem q233 : (Jvm.Cond.fieldLink "WrongRoom$Reader" (40 : Nat) "WrongRoom$Reader" "end" "I") ∈ lw_all := lw_g (lw_at lw_m1 123 rfl) rfl
theorem q234 : (Jvm.Cond.fieldLink "WrongRoom$Reader" (47 : Nat) "WrongRoom$Reader" "token" "I") ∈ lw_all := lw_g (lw_at lw_m1 124 rfl) rfl
theorem q235 : (Jvm.Cond.fieldLink "WrongRoom$Reader" (26 : Nat) "WrongRoom$Reader" "at" "I") ∈ lw_all := lw_g (lw_at lw_m1 125 rfl) rfl
theorem q236 : (Jvm.Cond.fieldLink "WrongRoom$Reader" (68 : Nat) "WrongRoom$Reader" "whole" "I") ∈ lw_all := lw_g (lw_at lw_m1 126 rfl) rfl
theorem q237 : (Jvm.Cond.fieldLink "WrongRoom$Reader" (61 : Nat) "WrongRoom$Reader" "word" "Ljava/lang/String;") ∈ lw_all := lw_g (lw_at lw_m1 127 rfl) rfl
theorem q238 : (Jvm.Cond.fieldLink "WrongRoom$Reader" (108 : Nat) "WrongRoom$Reader" "town" "LWrongRoom$Town;") ∈ lw_all := lw_g (lw_at lw_m1 128 rfl) rfl
theorem q239 : (Jvm.Cond.fieldLink "WrongRoom$Reader" (131 : Nat) "WrongRoom$Reader" "told" "Z") ∈ lw_all := lw_g (lw_at lw_m1 129 rfl) rfl
theorem q240 : (Jvm.Cond.laysFinal "WrongRoom$Reader" "WrongRoom$Reader" "wrong" "LWrongRoom$Refused;") ∈ lw_all := lw_g (lw_at lw_m1 130 rfl) rfl
theorem q241 : (Jvm.Cond.soleField "WrongRoom$Reader" "wrong") ∈ lw_all := lw_g (lw_at lw_m1 131 rfl) rfl
theorem q242 : (Jvm.Cond.laysFinal "WrongRoom$Reader" "WrongRoom$Reader" "text" "[B") ∈ lw_all := lw_g (lw_at lw_m1 132 rfl) rfl
theorem q243 : (Jvm.Cond.soleField "WrongRoom$Reader" "text") ∈ lw_all := lw_g (lw_at lw_m1 133 rfl) rfl
theorem q244 : (Jvm.Cond.laysFinal "WrongRoom$Reader" "WrongRoom$Reader" "letters" "[C") ∈ lw_all := lw_g (lw_at lw_m1 134 rfl) rfl
theorem q245 : (Jvm.Cond.soleField "WrongRoom$Reader" "letters") ∈ lw_all := lw_g (lw_at lw_m1 135 rfl) rfl
theorem q246 : (Jvm.Cond.lays "WrongRoom$Reader" "WrongRoom$Reader" "size" "I") ∈ lw_all := lw_g (lw_at lw_m1 136 rfl) rfl
theorem q247 : (Jvm.Cond.soleField "WrongRoom$Reader" "size") ∈ lw_all := lw_g (lw_at lw_m1 137 rfl) rfl
theorem q248 : (Jvm.Cond.lays "WrongRoom$Reader" "WrongRoom$Reader" "end" "I") ∈ lw_all := lw_g (lw_at lw_m1 138 rfl) rfl
theorem q249 : (Jvm.Cond.soleField "WrongRoom$Reader" "end") ∈ lw_all := lw_g (lw_at lw_m1 139 rfl) rfl
theorem q250 : (Jvm.Cond.lays "WrongRoom$Reader" "WrongRoom$Reader" "token" "I") ∈ lw_all := lw_g (lw_at lw_m1 140 rfl) rfl
theorem q251 : (Jvm.Cond.soleField "WrongRoom$Reader" "token") ∈ lw_all := lw_g (lw_at lw_m1 141 rfl) rfl
theorem q252 : (Jvm.Cond.lays "WrongRoom$Reader" "WrongRoom$Reader" "at" "I") ∈ lw_all := lw_g (lw_at lw_m1 142 rfl) rfl
theorem q253 : (Jvm.Cond.soleField "WrongRoom$Reader" "at") ∈ lw_all := lw_g (lw_at lw_m1 143 rfl) rfl
theorem q254 : (Jvm.Cond.lays "WrongRoom$Reader" "WrongRoom$Reader" "whole" "I") ∈ lw_all := lw_g (lw_at lw_m1 144 rfl) rfl
theorem q255 : (Jvm.Cond.soleField "WrongRoom$Reader" "whole") ∈ lw_all := lw_g (lw_at lw_m1 145 rfl) rfl
theorem q256 : (Jvm.Cond.lays "WrongRoom$Reader" "WrongRoom$Reader" "word" "Ljava/lang/String;") ∈ lw_all := lw_g (lw_at lw_m1 146 rfl) rfl
theorem q257 : (Jvm.Cond.soleField "WrongRoom$Reader" "word") ∈ lw_all := lw_g (lw_at lw_m1 147 rfl) rfl
theorem q258 : (Jvm.Cond.lays "WrongRoom$Reader" "WrongRoom$Reader" "town" "LWrongRoom$Town;") ∈ lw_all := lw_g (lw_at lw_m1 148 rfl) rfl
theorem q259 : (Jvm.Cond.soleField "WrongRoom$Reader" "town") ∈ lw_all := lw_g (lw_at lw_m1 149 rfl) rfl
theorem q260 : (Jvm.Cond.lays "WrongRoom$Reader" "WrongRoom$Reader" "told" "Z") ∈ lw_all := lw_g (lw_at lw_m1 150 rfl) rfl
theorem q261 : (Jvm.Cond.soleField "WrongRoom$Reader" "told") ∈ lw_all := lw_g (lw_at lw_m1 151 rfl) rfl
theorem q262 : (Jvm.Cond.superclass "WrongRoom$Reader" "java/lang/Object") ∈ lw_all := lw_g (lw_at lw_m1 152 rfl) rfl
theorem q489 : (Jvm.Cond.instanceMethod ({ cls := "WrongRoom$Reader", name := "read", desc := "(I)LWrongRoom$Town;" } : Jvm.MethodName)) ∈ lw_all := lw_g (lw_at lw_m2 139 rfl) rfl
theorem q490 : (Jvm.Cond.selects "WrongRoom$Reader" ({ cls := "WrongRoom$Reader", name := "read", desc := "(I)LWrongRoom$Town;" } : Jvm.MethodName) ({ cls := "WrongRoom$Reader", name := "read", desc := "(I)LWrongRoom$Town;" } : Jvm.MethodName)) ∈ lw_all := lw_g (lw_at lw_m2 140 rfl) rfl
theorem q491 : (Jvm.Cond.code ({ cls := "WrongRoom$Reader", name := "read", desc := "(I)LWrongRoom$Town;" } : Jvm.MethodName) prog_11_method_17_code (2 : Nat) (Option.some (Jvm.ClassFile.FieldType.object "WrongRoom$Town"))) ∈ lw_all := lw_g (lw_at lw_m2 141 rfl) rfl
theorem q492 : (Jvm.Cond.classLink "WrongRoom$Reader" (112 : Nat) "WrongRoom$Town") ∈ lw_all := lw_g (lw_at lw_m2 142 rfl) rfl
theorem q494 : (Jvm.Cond.methodLinkNest "WrongRoom$Reader" (135 : Nat) ({ cls := "WrongRoom$Town", name := "<init>", desc := "()V" } : Jvm.MethodName) "WrongRoom") ∈ lw_tbl := lw_at lw_m2 144 rfl
theorem q507 : (Jvm.Cond.fieldLink "WrongRoom$Reader" (209 : Nat) "WrongRoom$Town" "houses" "[LWrongRoom$House;") ∈ lw_all := lw_g (lw_at lw_m2 157 rfl) rfl
theorem q511 : (Jvm.Cond.fieldLink "WrongRoom$Reader" (261 : Nat) "WrongRoom$Town" "people" "[LWrongRoom$Person;") ∈ lw_all := lw_g (lw_at lw_m2 161 rfl) rfl
theorem q513 : (Jvm.Cond.fieldLink "WrongRoom$Reader" (265 : Nat) "WrongRoom$Town" "notices" "[LWrongRoom$Notice;") ∈ lw_all := lw_g (lw_at lw_m2 163 rfl) rfl
theorem q516 : (Jvm.Cond.fieldLink "WrongRoom$Reader" (245 : Nat) "WrongRoom$Town" "streets" "[I") ∈ lw_all := lw_g (lw_at lw_m2 166 rfl) rfl
theorem q519 : (Jvm.Cond.fieldLink "WrongRoom$Reader" (172 : Nat) "WrongRoom$Town" "door" "I") ∈ lw_all := lw_g (lw_at lw_m2 169 rfl) rfl
theorem q521 : (Jvm.Cond.fieldLink "WrongRoom$Reader" (176 : Nat) "WrongRoom$Town" "like" "I") ∈ lw_all := lw_g (lw_at lw_m2 171 rfl) rfl
theorem q529 : (Jvm.Cond.fieldLink "WrongRoom$Reader" (139 : Nat) "WrongRoom$Town" "houseMany" "I") ∈ lw_all := lw_g (lw_at lw_m2 179 rfl) rfl
theorem q530 : (Jvm.Cond.fieldLink "WrongRoom$Reader" (233 : Nat) "WrongRoom$Town" "hoursMany" "I") ∈ lw_all := lw_g (lw_at lw_m2 180 rfl) rfl
theorem q532 : (Jvm.Cond.fieldLink "WrongRoom$Reader" (236 : Nat) "WrongRoom$Town" "streetMany" "I") ∈ lw_all := lw_g (lw_at lw_m2 182 rfl) rfl
theorem q537 : (Jvm.Cond.fieldLink "WrongRoom$Reader" (249 : Nat) "WrongRoom$Town" "personMany" "I") ∈ lw_all := lw_g (lw_at lw_m2 187 rfl) rfl
theorem q539 : (Jvm.Cond.fieldLink "WrongRoom$Reader" (272 : Nat) "WrongRoom$Town" "signMany" "I") ∈ lw_all := lw_g (lw_at lw_m2 189 rfl) rfl
theorem q542 : (Jvm.Cond.fieldLink "WrongRoom$Reader" (284 : Nat) "WrongRoom$Town" "noiseMany" "I") ∈ lw_all := lw_g (lw_at lw_m2 192 rfl) rfl
theorem q569 : (Jvm.Cond.methodLink "WrongRoom$Reader" (75 : Nat) ({ cls := "WrongRoom$Reader", name := "next", desc := "()V" } : Jvm.MethodName)) ∈ lw_all := lw_g (lw_at lw_m2 219 rfl) rfl
theorem q570 : (Jvm.Cond.privateMethod ({ cls := "WrongRoom$Reader", name := "next", desc := "()V" } : Jvm.MethodName)) ∈ lw_tbl := lw_at lw_m2 220 rfl
theorem q571 : (Jvm.Cond.instanceMethod ({ cls := "WrongRoom$Reader", name := "next", desc := "()V" } : Jvm.MethodName)) ∈ lw_all := lw_g (lw_at lw_m2 221 rfl) rfl
theorem q572 : (Jvm.Cond.code ({ cls := "WrongRoom$Reader", name := "next", desc := "()V" } : Jvm.MethodName) prog_11_method_6_code (3 : Nat) (Option.none : Option Jvm.ClassFile.FieldType)) ∈ lw_all := lw_g (lw_at lw_m2 222 rfl) rfl
theorem q573 : (Jvm.Cond.methodLink "WrongRoom$Reader" (43 : Nat) ({ cls := "WrongRoom$Reader", name := "see", desc := "(I)I" } : Jvm.MethodName)) ∈ lw_all := lw_g (lw_at lw_m2 223 rfl) rfl
theorem q574 : (Jvm.Cond.privateMethod ({ cls := "WrongRoom$Reader", name := "see", desc := "(I)I" } : Jvm.MethodName)) ∈ lw_tbl := lw_at lw_m2 224 rfl
theorem q575 : (Jvm.Cond.instanceMethod ({ cls := "WrongRoom$Reader", name := "see", desc := "(I)I" } : Jvm.MethodName)) ∈ lw_all := lw_g (lw_at lw_m2 225 rfl) rfl
theorem q576 : (Jvm.Cond.code ({ cls := "WrongRoom$Reader", name := "see", desc := "(I)I" } : Jvm.MethodName) prog_11_method_3_code (2 : Nat) (Option.some Jvm.ClassFile.FieldType.int)) ∈ lw_all := lw_g (lw_at lw_m2 226 rfl) rfl
theorem q577 : (Jvm.Cond.methodLink "WrongRoom$Reader" (50 : Nat) ({ cls := "WrongRoom$Reader", name := "isSmall", desc := "(I)Z" } : Jvm.MethodName)) ∈ lw_all := lw_g (lw_at lw_m2 227 rfl) rfl
theorem q578 : (Jvm.Cond.static ({ cls := "WrongRoom$Reader", name := "isSmall", desc := "(I)Z" } : Jvm.MethodName)) ∈ lw_all := lw_g (lw_at lw_m2 228 rfl) rfl
theorem q579 : (Jvm.Cond.code ({ cls := "WrongRoom$Reader", name := "isSmall", desc := "(I)Z" } : Jvm.MethodName) prog_11_method_4_code (1 : Nat) (Option.some Jvm.ClassFile.FieldType.boolean)) ∈ lw_all := lw_g (lw_at lw_m2 229 rfl) rfl
theorem q580 : (Jvm.Cond.methodLinkNest "WrongRoom$Reader" (36 : Nat) ({ cls := "WrongRoom", name := "in", desc := "(III)Z" } : Jvm.MethodName) "WrongRoom") ∈ lw_tbl := lw_at lw_m2 230 rfl
theorem q581 : (Jvm.Cond.classLink "WrongRoom$Reader" (54 : Nat) "java/lang/String") ∈ lw_all := lw_g (lw_at lw_m2 231 rfl) rfl
theorem q583 : (Jvm.Cond.methodLink "WrongRoom$Reader" (56 : Nat) ({ cls := "java/lang/String", name := "<init>", desc := "([CII)V" } : Jvm.MethodName)) ∈ lw_all := lw_g (lw_at lw_m2 233 rfl) rfl
theorem q659 : (Jvm.Cond.stringRef "WrongRoom$Reader" (59 : Nat) "") ∈ lw_tbl := lw_at lw_m3 69 rfl
theorem q660 : (Jvm.Cond.methodLink "WrongRoom$Reader" (65 : Nat) ({ cls := "WrongRoom$Reader", name := "isDigit", desc := "(I)Z" } : Jvm.MethodName)) ∈ lw_all := lw_g (lw_at lw_m3 70 rfl) rfl
theorem q661 : (Jvm.Cond.static ({ cls := "WrongRoom$Reader", name := "isDigit", desc := "(I)Z" } : Jvm.MethodName)) ∈ lw_all := lw_g (lw_at lw_m3 71 rfl) rfl
theorem q662 : (Jvm.Cond.code ({ cls := "WrongRoom$Reader", name := "isDigit", desc := "(I)Z" } : Jvm.MethodName) prog_11_method_5_code (1 : Nat) (Option.some Jvm.ClassFile.FieldType.boolean)) ∈ lw_all := lw_g (lw_at lw_m3 72 rfl) rfl
theorem q663 : (Jvm.Cond.methodLink "WrongRoom$Reader" (136 : Nat) ({ cls := "WrongRoom$Reader", name := "line", desc := "()V" } : Jvm.MethodName)) ∈ lw_all := lw_g (lw_at lw_m3 73 rfl) rfl
theorem q664 : (Jvm.Cond.privateMethod ({ cls := "WrongRoom$Reader", name := "line", desc := "()V" } : Jvm.MethodName)) ∈ lw_tbl := lw_at lw_m3 74 rfl
theorem q665 : (Jvm.Cond.instanceMethod ({ cls := "WrongRoom$Reader", name := "line", desc := "()V" } : Jvm.MethodName)) ∈ lw_all := lw_g (lw_at lw_m3 75 rfl) rfl
theorem q666 : (Jvm.Cond.code ({ cls := "WrongRoom$Reader", name := "line", desc := "()V" } : Jvm.MethodName) prog_11_method_18_code (3 : Nat) (Option.none : Option Jvm.ClassFile.FieldType)) ∈ lw_all := lw_g (lw_at lw_m3 76 rfl) rfl
theorem q667 : (Jvm.Cond.methodLink "WrongRoom$Reader" (82 : Nat) ({ cls := "WrongRoom$Reader", name := "fail", desc := "(I)LWrongRoom$Refused;" } : Jvm.MethodName)) ∈ lw_all := lw_g (lw_at lw_m3 77 rfl) rfl
theorem q668 : (Jvm.Cond.privateMethod ({ cls := "WrongRoom$Reader", name := "fail", desc := "(I)LWrongRoom$Refused;" } : Jvm.MethodName)) ∈ lw_tbl := lw_at lw_m3 78 rfl
theorem q669 : (Jvm.Cond.instanceMethod ({ cls := "WrongRoom$Reader", name := "fail", desc := "(I)LWrongRoom$Refused;" } : Jvm.MethodName)) ∈ lw_all := lw_g (lw_at lw_m3 79 rfl) rfl
theorem q670 : (Jvm.Cond.code ({ cls := "WrongRoom$Reader", name := "fail", desc := "(I)LWrongRoom$Refused;" } : Jvm.MethodName) prog_11_method_2_code (2 : Nat) (Option.some (Jvm.ClassFile.FieldType.object "WrongRoom$Refused"))) ∈ lw_all := lw_g (lw_at lw_m3 80 rfl) rfl
theorem q671 : (Jvm.Cond.methodLink "WrongRoom$Reader" (30 : Nat) ({ cls := "WrongRoom$Refused", name := "at", desc := "(II)LWrongRoom$Refused;" } : Jvm.MethodName)) ∈ lw_all := lw_g (lw_at lw_m3 81 rfl) rfl
theorem q675 : (Jvm.Cond.methodLink "WrongRoom$Reader" (86 : Nat) ({ cls := "java/lang/String", name := "hashCode", desc := "()I" } : Jvm.MethodName)) ∈ lw_all := lw_g (lw_at lw_m3 85 rfl) rfl
theorem q728 : (Jvm.Cond.stringRef "WrongRoom$Reader" (90 : Nat) "town") ∈ lw_tbl := lw_at lw_m3 138 rfl
theorem q729 : (Jvm.Cond.methodLink "WrongRoom$Reader" (71 : Nat) ({ cls := "java/lang/String", name := "equals", desc := "(Ljava/lang/Object;)Z" } : Jvm.MethodName)) ∈ lw_all := lw_g (lw_at lw_m3 139 rfl) rfl
theorem q737 : (Jvm.Cond.stringRef "WrongRoom$Reader" (92 : Nat) "house") ∈ lw_tbl := lw_at lw_m3 147 rfl
theorem q738 : (Jvm.Cond.stringRef "WrongRoom$Reader" (94 : Nat) "wrong") ∈ lw_tbl := lw_at lw_m3 148 rfl
theorem q739 : (Jvm.Cond.stringRef "WrongRoom$Reader" (95 : Nat) "open") ∈ lw_tbl := lw_at lw_m3 149 rfl
theorem q740 : (Jvm.Cond.stringRef "WrongRoom$Reader" (97 : Nat) "street") ∈ lw_tbl := lw_at lw_m3 150 rfl
theorem q741 : (Jvm.Cond.stringRef "WrongRoom$Reader" (99 : Nat) "person") ∈ lw_tbl := lw_at lw_m3 151 rfl
theorem q742 : (Jvm.Cond.stringRef "WrongRoom$Reader" (101 : Nat) "sign") ∈ lw_tbl := lw_at lw_m3 152 rfl
theorem q743 : (Jvm.Cond.stringRef "WrongRoom$Reader" (103 : Nat) "noise") ∈ lw_tbl := lw_at lw_m3 153 rfl
theorem q744 : (Jvm.Cond.methodLink "WrongRoom$Reader" (142 : Nat) ({ cls := "WrongRoom$Reader", name := "townLine", desc := "()V" } : Jvm.MethodName)) ∈ lw_all := lw_g (lw_at lw_m3 154 rfl) rfl
theorem q745 : (Jvm.Cond.privateMethod ({ cls := "WrongRoom$Reader", name := "townLine", desc := "()V" } : Jvm.MethodName)) ∈ lw_tbl := lw_at lw_m3 155 rfl
theorem q746 : (Jvm.Cond.instanceMethod ({ cls := "WrongRoom$Reader", name := "townLine", desc := "()V" } : Jvm.MethodName)) ∈ lw_all := lw_g (lw_at lw_m3 156 rfl) rfl
theorem q747 : (Jvm.Cond.code ({ cls := "WrongRoom$Reader", name := "townLine", desc := "()V" } : Jvm.MethodName) prog_11_method_19_code (1 : Nat) (Option.none : Option Jvm.ClassFile.FieldType)) ∈ lw_all := lw_g (lw_at lw_m3 157 rfl) rfl
theorem q748 : (Jvm.Cond.stringRef "WrongRoom$Reader" (166 : Nat) "door") ∈ lw_tbl := lw_at lw_m3 158 rfl
theorem q749 : (Jvm.Cond.methodLink "WrongRoom$Reader" (168 : Nat) ({ cls := "WrongRoom$Reader", name := "after", desc := "(Ljava/lang/String;II)I" } : Jvm.MethodName)) ∈ lw_all := lw_g (lw_at lw_m3 159 rfl) rfl
theorem q750 : (Jvm.Cond.privateMethod ({ cls := "WrongRoom$Reader", name := "after", desc := "(Ljava/lang/String;II)I" } : Jvm.MethodName)) ∈ lw_tbl := lw_at lw_m3 160 rfl
theorem q751 : (Jvm.Cond.instanceMethod ({ cls := "WrongRoom$Reader", name := "after", desc := "(Ljava/lang/String;II)I" } : Jvm.MethodName)) ∈ lw_all := lw_g (lw_at lw_m3 161 rfl) rfl
theorem q752 : (Jvm.Cond.code ({ cls := "WrongRoom$Reader", name := "after", desc := "(Ljava/lang/String;II)I" } : Jvm.MethodName) prog_11_method_15_code (4 : Nat) (Option.some Jvm.ClassFile.FieldType.int)) ∈ lw_all := lw_g (lw_at lw_m3 162 rfl) rfl
theorem q753 : (Jvm.Cond.methodLink "WrongRoom$Reader" (123 : Nat) ({ cls := "WrongRoom$Reader", name := "must", desc := "(Ljava/lang/String;)V" } : Jvm.MethodName)) ∈ lw_all := lw_g (lw_at lw_m3 163 rfl) rfl
theorem q754 : (Jvm.Cond.privateMethod ({ cls := "WrongRoom$Reader", name := "must", desc := "(Ljava/lang/String;)V" } : Jvm.MethodName)) ∈ lw_tbl := lw_at lw_m3 164 rfl
theorem q755 : (Jvm.Cond.instanceMethod ({ cls := "WrongRoom$Reader", name := "must", desc := "(Ljava/lang/String;)V" } : Jvm.MethodName)) ∈ lw_all := lw_g (lw_at lw_m3 165 rfl) rfl
theorem q756 : (Jvm.Cond.code ({ cls := "WrongRoom$Reader", name := "must", desc := "(Ljava/lang/String;)V" } : Jvm.MethodName) prog_11_method_8_code (2 : Nat) (Option.none : Option Jvm.ClassFile.FieldType)) ∈ lw_all := lw_g (lw_at lw_m3 166 rfl) rfl
theorem q757 : (Jvm.Cond.methodLink "WrongRoom$Reader" (78 : Nat) ({ cls := "WrongRoom$Reader", name := "takes", desc := "(Ljava/lang/String;)Z" } : Jvm.MethodName)) ∈ lw_all := lw_g (lw_at lw_m3 167 rfl) rfl
theorem q758 : (Jvm.Cond.privateMethod ({ cls := "WrongRoom$Reader", name := "takes", desc := "(Ljava/lang/String;)Z" } : Jvm.MethodName)) ∈ lw_tbl := lw_at lw_m3 168 rfl
theorem q759 : (Jvm.Cond.instanceMethod ({ cls := "WrongRoom$Reader", name := "takes", desc := "(Ljava/lang/String;)Z" } : Jvm.MethodName)) ∈ lw_all := lw_g (lw_at lw_m3 169 rfl) rfl
theorem q760 : (Jvm.Cond.code ({ cls := "WrongRoom$Reader", name := "takes", desc := "(Ljava/lang/String;)Z" } : Jvm.MethodName) prog_11_method_7_code (2 : Nat) (Option.some Jvm.ClassFile.FieldType.boolean)) ∈ lw_all := lw_g (lw_at lw_m3 170 rfl) rfl
theorem q761 : (Jvm.Cond.methodLink "WrongRoom$Reader" (127 : Nat) ({ cls := "WrongRoom$Reader", name := "number", desc := "(II)I" } : Jvm.MethodName)) ∈ lw_all := lw_g (lw_at lw_m3 171 rfl) rfl
theorem q762 : (Jvm.Cond.privateMethod ({ cls := "WrongRoom$Reader", name := "number", desc := "(II)I" } : Jvm.MethodName)) ∈ lw_tbl := lw_at lw_m3 172 rfl
theorem q763 : (Jvm.Cond.instanceMethod ({ cls := "WrongRoom$Reader", name := "number", desc := "(II)I" } : Jvm.MethodName)) ∈ lw_all := lw_g (lw_at lw_m3 173 rfl) rfl
theorem q764 : (Jvm.Cond.code ({ cls := "WrongRoom$Reader", name := "number", desc := "(II)I" } : Jvm.MethodName) prog_11_method_14_code (4 : Nat) (Option.some Jvm.ClassFile.FieldType.int)) ∈ lw_all := lw_g (lw_at lw_m3 174 rfl) rfl
theorem q765 : (Jvm.Cond.stringRef "WrongRoom$Reader" (174 : Nat) "like") ∈ lw_tbl := lw_at lw_m3 175 rfl
theorem q766 : (Jvm.Cond.methodLink "WrongRoom$Reader" (145 : Nat) ({ cls := "WrongRoom$Reader", name := "houseLine", desc := "()V" } : Jvm.MethodName)) ∈ lw_all := lw_g (lw_at lw_m3 176 rfl) rfl
theorem q767 : (Jvm.Cond.privateMethod ({ cls := "WrongRoom$Reader", name := "houseLine", desc := "()V" } : Jvm.MethodName)) ∈ lw_tbl := lw_at lw_m3 177 rfl
theorem q768 : (Jvm.Cond.instanceMethod ({ cls := "WrongRoom$Reader", name := "houseLine", desc := "()V" } : Jvm.MethodName)) ∈ lw_all := lw_g (lw_at lw_m3 178 rfl) rfl
theorem q769 : (Jvm.Cond.code ({ cls := "WrongRoom$Reader", name := "houseLine", desc := "()V" } : Jvm.MethodName) prog_11_method_20_code (2 : Nat) (Option.none : Option Jvm.ClassFile.FieldType)) ∈ lw_all := lw_g (lw_at lw_m3 179 rfl) rfl
theorem q770 : (Jvm.Cond.methodLink "WrongRoom$Reader" (178 : Nat) ({ cls := "WrongRoom$Reader", name := "begins", desc := "(Z)V" } : Jvm.MethodName)) ∈ lw_all := lw_g (lw_at lw_m3 180 rfl) rfl
theorem q771 : (Jvm.Cond.privateMethod ({ cls := "WrongRoom$Reader", name := "begins", desc := "(Z)V" } : Jvm.MethodName)) ∈ lw_tbl := lw_at lw_m3 181 rfl
theorem q772 : (Jvm.Cond.instanceMethod ({ cls := "WrongRoom$Reader", name := "begins", desc := "(Z)V" } : Jvm.MethodName)) ∈ lw_all := lw_g (lw_at lw_m3 182 rfl) rfl
theorem q773 : (Jvm.Cond.code ({ cls := "WrongRoom$Reader", name := "begins", desc := "(Z)V" } : Jvm.MethodName) prog_11_method_16_code (2 : Nat) (Option.none : Option Jvm.ClassFile.FieldType)) ∈ lw_all := lw_g (lw_at lw_m3 183 rfl) rfl
theorem q774 : (Jvm.Cond.classLink "WrongRoom$Reader" (117 : Nat) "WrongRoom$House") ∈ lw_all := lw_g (lw_at lw_m3 184 rfl) rfl
theorem q776 : (Jvm.Cond.methodLink "WrongRoom$Reader" (182 : Nat) ({ cls := "WrongRoom$Reader", name := "newName", desc := "()Ljava/lang/String;" } : Jvm.MethodName)) ∈ lw_all := lw_g (lw_at lw_m3 186 rfl) rfl
theorem q777 : (Jvm.Cond.privateMethod ({ cls := "WrongRoom$Reader", name := "newName", desc := "()Ljava/lang/String;" } : Jvm.MethodName)) ∈ lw_tbl := lw_at lw_m3 187 rfl
theorem q778 : (Jvm.Cond.instanceMethod ({ cls := "WrongRoom$Reader", name := "newName", desc := "()Ljava/lang/String;" } : Jvm.MethodName)) ∈ lw_all := lw_g (lw_at lw_m3 188 rfl) rfl
theorem q779 : (Jvm.Cond.code ({ cls := "WrongRoom$Reader", name := "newName", desc := "()Ljava/lang/String;" } : Jvm.MethodName) prog_11_method_10_code (2 : Nat) (Option.some (Jvm.ClassFile.FieldType.object "java/lang/String"))) ∈ lw_all := lw_g (lw_at lw_m3 189 rfl) rfl
theorem q780 : (Jvm.Cond.methodLink "WrongRoom$Reader" (105 : Nat) ({ cls := "WrongRoom$Reader", name := "mustName", desc := "()V" } : Jvm.MethodName)) ∈ lw_all := lw_g (lw_at lw_m3 190 rfl) rfl
theorem q781 : (Jvm.Cond.privateMethod ({ cls := "WrongRoom$Reader", name := "mustName", desc := "()V" } : Jvm.MethodName)) ∈ lw_tbl := lw_at lw_m3 191 rfl
theorem q782 : (Jvm.Cond.instanceMethod ({ cls := "WrongRoom$Reader", name := "mustName", desc := "()V" } : Jvm.MethodName)) ∈ lw_all := lw_g (lw_at lw_m3 192 rfl) rfl
theorem q783 : (Jvm.Cond.code ({ cls := "WrongRoom$Reader", name := "mustName", desc := "()V" } : Jvm.MethodName) prog_11_method_9_code (3 : Nat) (Option.none : Option Jvm.ClassFile.FieldType)) ∈ lw_all := lw_g (lw_at lw_m3 193 rfl) rfl
theorem q784 : (Jvm.Cond.methodLink "WrongRoom$Reader" (111 : Nat) ({ cls := "WrongRoom$Town", name := "find", desc := "(Ljava/lang/String;)LWrongRoom$Named;" } : Jvm.MethodName)) ∈ lw_all := lw_g (lw_at lw_m3 194 rfl) rfl
theorem q789 : (Jvm.Cond.methodLink "WrongRoom$Reader" (186 : Nat) ({ cls := "WrongRoom$House", name := "<init>", desc := "(Ljava/lang/String;I)V" } : Jvm.MethodName)) ∈ lw_all := lw_g (lw_at lw_m3 199 rfl) rfl
theorem q797 : (Jvm.Cond.fieldLink "WrongRoom$Reader" (206 : Nat) "WrongRoom$House" "smell" "Ljava/lang/String;") ∈ lw_all := lw_g (lw_at lw_m3 207 rfl) rfl
theorem q800 : (Jvm.Cond.fieldLink "WrongRoom$Reader" (191 : Nat) "WrongRoom$House" "rooms" "I") ∈ lw_all := lw_g (lw_at lw_m3 210 rfl) rfl
theorem q802 : (Jvm.Cond.fieldLink "WrongRoom$Reader" (195 : Nat) "WrongRoom$House" "rent" "I") ∈ lw_all := lw_g (lw_at lw_m3 212 rfl) rfl
theorem q804 : (Jvm.Cond.fieldLink "WrongRoom$Reader" (199 : Nat) "WrongRoom$House" "bill" "I") ∈ lw_all := lw_g (lw_at lw_m3 214 rfl) rfl
theorem q806 : (Jvm.Cond.fieldLink "WrongRoom$Reader" (227 : Nat) "WrongRoom$House" "from" "I") ∈ lw_all := lw_g (lw_at lw_m3 216 rfl) rfl
theorem q808 : (Jvm.Cond.fieldLink "WrongRoom$Reader" (231 : Nat) "WrongRoom$House" "to" "I") ∈ lw_all := lw_g (lw_at lw_m3 218 rfl) rfl
theorem q811 : (Jvm.Cond.fieldLink "WrongRoom$Reader" (213 : Nat) "WrongRoom$House" "wrong" "I") ∈ lw_all := lw_g (lw_at lw_m3 221 rfl) rfl
theorem q812 : (Jvm.Cond.fieldLink "WrongRoom$Reader" (222 : Nat) "WrongRoom$House" "hours" "Z") ∈ lw_all := lw_g (lw_at lw_m3 222 rfl) rfl
theorem q813 : (Jvm.Cond.fieldLink "WrongRoom$Reader" (217 : Nat) "WrongRoom$House" "lent" "Z") ∈ lw_all := lw_g (lw_at lw_m3 223 rfl) rfl
theorem q820 : (Jvm.Cond.fieldLink "WrongRoom$Reader" (220 : Nat) "WrongRoom$House" "number" "I") ∈ lw_all := lw_g (lw_at lw_m3 230 rfl) rfl
theorem q845 : (Jvm.Cond.stringRef "WrongRoom$Reader" (189 : Nat) "rooms") ∈ lw_tbl := lw_at lw_m4 15 rfl
theorem q846 : (Jvm.Cond.stringRef "WrongRoom$Reader" (193 : Nat) "rent") ∈ lw_tbl := lw_at lw_m4 16 rfl
theorem q847 : (Jvm.Cond.stringRef "WrongRoom$Reader" (197 : Nat) "bill") ∈ lw_tbl := lw_at lw_m4 17 rfl
theorem q848 : (Jvm.Cond.stringRef "WrongRoom$Reader" (201 : Nat) "smells") ∈ lw_tbl := lw_at lw_m4 18 rfl
theorem q849 : (Jvm.Cond.methodLink "WrongRoom$Reader" (203 : Nat) ({ cls := "WrongRoom$Reader", name := "anyWord", desc := "()Ljava/lang/String;" } : Jvm.MethodName)) ∈ lw_all := lw_g (lw_at lw_m4 19 rfl) rfl
theorem q850 : (Jvm.Cond.privateMethod ({ cls := "WrongRoom$Reader", name := "anyWord", desc := "()Ljava/lang/String;" } : Jvm.MethodName)) ∈ lw_tbl := lw_at lw_m4 20 rfl
theorem q851 : (Jvm.Cond.instanceMethod ({ cls := "WrongRoom$Reader", name := "anyWord", desc := "()Ljava/lang/String;" } : Jvm.MethodName)) ∈ lw_all := lw_g (lw_at lw_m4 21 rfl) rfl
theorem q852 : (Jvm.Cond.code ({ cls := "WrongRoom$Reader", name := "anyWord", desc := "()Ljava/lang/String;" } : Jvm.MethodName) prog_11_method_11_code (2 : Nat) (Option.some (Jvm.ClassFile.FieldType.object "java/lang/String"))) ∈ lw_all := lw_g (lw_at lw_m4 22 rfl) rfl
theorem q853 : (Jvm.Cond.methodLink "WrongRoom$Reader" (148 : Nat) ({ cls := "WrongRoom$Reader", name := "wrongLine", desc := "()V" } : Jvm.MethodName)) ∈ lw_all := lw_g (lw_at lw_m4 23 rfl) rfl
theorem q854 : (Jvm.Cond.privateMethod ({ cls := "WrongRoom$Reader", name := "wrongLine", desc := "()V" } : Jvm.MethodName)) ∈ lw_tbl := lw_at lw_m4 24 rfl
theorem q855 : (Jvm.Cond.instanceMethod ({ cls := "WrongRoom$Reader", name := "wrongLine", desc := "()V" } : Jvm.MethodName)) ∈ lw_all := lw_g (lw_at lw_m4 25 rfl) rfl
theorem q856 : (Jvm.Cond.code ({ cls := "WrongRoom$Reader", name := "wrongLine", desc := "()V" } : Jvm.MethodName) prog_11_method_21_code (3 : Nat) (Option.none : Option Jvm.ClassFile.FieldType)) ∈ lw_all := lw_g (lw_at lw_m4 26 rfl) rfl
theorem q857 : (Jvm.Cond.methodLink "WrongRoom$Reader" (119 : Nat) ({ cls := "WrongRoom$Reader", name := "houseHere", desc := "()LWrongRoom$House;" } : Jvm.MethodName)) ∈ lw_all := lw_g (lw_at lw_m4 27 rfl) rfl
theorem q858 : (Jvm.Cond.privateMethod ({ cls := "WrongRoom$Reader", name := "houseHere", desc := "()LWrongRoom$House;" } : Jvm.MethodName)) ∈ lw_tbl := lw_at lw_m4 28 rfl
theorem q859 : (Jvm.Cond.instanceMethod ({ cls := "WrongRoom$Reader", name := "houseHere", desc := "()LWrongRoom$House;" } : Jvm.MethodName)) ∈ lw_all := lw_g (lw_at lw_m4 29 rfl) rfl
theorem q860 : (Jvm.Cond.code ({ cls := "WrongRoom$Reader", name := "houseHere", desc := "()LWrongRoom$House;" } : Jvm.MethodName) prog_11_method_12_code (2 : Nat) (Option.some (Jvm.ClassFile.FieldType.object "WrongRoom$House"))) ∈ lw_all := lw_g (lw_at lw_m4 30 rfl) rfl
theorem q861 : (Jvm.Cond.stringRef "WrongRoom$Reader" (215 : Nat) "of") ∈ lw_tbl := lw_at lw_m4 31 rfl
theorem q862 : (Jvm.Cond.methodLink "WrongRoom$Reader" (151 : Nat) ({ cls := "WrongRoom$Reader", name := "openLine", desc := "()V" } : Jvm.MethodName)) ∈ lw_all := lw_g (lw_at lw_m4 32 rfl) rfl
theorem q863 : (Jvm.Cond.privateMethod ({ cls := "WrongRoom$Reader", name := "openLine", desc := "()V" } : Jvm.MethodName)) ∈ lw_tbl := lw_at lw_m4 33 rfl
theorem q864 : (Jvm.Cond.instanceMethod ({ cls := "WrongRoom$Reader", name := "openLine", desc := "()V" } : Jvm.MethodName)) ∈ lw_all := lw_g (lw_at lw_m4 34 rfl) rfl
theorem q865 : (Jvm.Cond.code ({ cls := "WrongRoom$Reader", name := "openLine", desc := "()V" } : Jvm.MethodName) prog_11_method_22_code (2 : Nat) (Option.none : Option Jvm.ClassFile.FieldType)) ∈ lw_all := lw_g (lw_at lw_m4 35 rfl) rfl
theorem q866 : (Jvm.Cond.stringRef "WrongRoom$Reader" (225 : Nat) "from") ∈ lw_tbl := lw_at lw_m4 36 rfl
theorem q867 : (Jvm.Cond.stringRef "WrongRoom$Reader" (229 : Nat) "to") ∈ lw_tbl := lw_at lw_m4 37 rfl
theorem q868 : (Jvm.Cond.methodLink "WrongRoom$Reader" (154 : Nat) ({ cls := "WrongRoom$Reader", name := "streetLine", desc := "()V" } : Jvm.MethodName)) ∈ lw_all := lw_g (lw_at lw_m4 38 rfl) rfl
theorem q869 : (Jvm.Cond.privateMethod ({ cls := "WrongRoom$Reader", name := "streetLine", desc := "()V" } : Jvm.MethodName)) ∈ lw_tbl := lw_at lw_m4 39 rfl
theorem q870 : (Jvm.Cond.instanceMethod ({ cls := "WrongRoom$Reader", name := "streetLine", desc := "()V" } : Jvm.MethodName)) ∈ lw_all := lw_g (lw_at lw_m4 40 rfl) rfl
theorem q871 : (Jvm.Cond.code ({ cls := "WrongRoom$Reader", name := "streetLine", desc := "()V" } : Jvm.MethodName) prog_11_method_23_code (4 : Nat) (Option.none : Option Jvm.ClassFile.FieldType)) ∈ lw_all := lw_g (lw_at lw_m4 41 rfl) rfl
theorem q872 : (Jvm.Cond.methodLink "WrongRoom$Reader" (239 : Nat) ({ cls := "WrongRoom$Reader", name := "house", desc := "()LWrongRoom$House;" } : Jvm.MethodName)) ∈ lw_all := lw_g (lw_at lw_m4 42 rfl) rfl
theorem q873 : (Jvm.Cond.privateMethod ({ cls := "WrongRoom$Reader", name := "house", desc := "()LWrongRoom$House;" } : Jvm.MethodName)) ∈ lw_tbl := lw_at lw_m4 43 rfl
theorem q874 : (Jvm.Cond.instanceMethod ({ cls := "WrongRoom$Reader", name := "house", desc := "()LWrongRoom$House;" } : Jvm.MethodName)) ∈ lw_all := lw_g (lw_at lw_m4 44 rfl) rfl
theorem q875 : (Jvm.Cond.code ({ cls := "WrongRoom$Reader", name := "house", desc := "()LWrongRoom$House;" } : Jvm.MethodName) prog_11_method_13_code (2 : Nat) (Option.some (Jvm.ClassFile.FieldType.object "WrongRoom$House"))) ∈ lw_all := lw_g (lw_at lw_m4 45 rfl) rfl
theorem q876 : (Jvm.Cond.methodLink "WrongRoom$Reader" (241 : Nat) ({ cls := "WrongRoom$Town", name := "street", desc := "(II)I" } : Jvm.MethodName)) ∈ lw_all := lw_g (lw_at lw_m4 46 rfl) rfl
theorem q880 : (Jvm.Cond.stringRef "WrongRoom$Reader" (243 : Nat) "minutes") ∈ lw_tbl := lw_at lw_m4 50 rfl
theorem q881 : (Jvm.Cond.methodLink "WrongRoom$Reader" (157 : Nat) ({ cls := "WrongRoom$Reader", name := "personLine", desc := "()V" } : Jvm.MethodName)) ∈ lw_all := lw_g (lw_at lw_m4 51 rfl) rfl
theorem q882 : (Jvm.Cond.privateMethod ({ cls := "WrongRoom$Reader", name := "personLine", desc := "()V" } : Jvm.MethodName)) ∈ lw_tbl := lw_at lw_m4 52 rfl
theorem q883 : (Jvm.Cond.instanceMethod ({ cls := "WrongRoom$Reader", name := "personLine", desc := "()V" } : Jvm.MethodName)) ∈ lw_all := lw_g (lw_at lw_m4 53 rfl) rfl
theorem q884 : (Jvm.Cond.code ({ cls := "WrongRoom$Reader", name := "personLine", desc := "()V" } : Jvm.MethodName) prog_11_method_24_code (2 : Nat) (Option.none : Option Jvm.ClassFile.FieldType)) ∈ lw_all := lw_g (lw_at lw_m4 54 rfl) rfl
theorem q885 : (Jvm.Cond.classLink "WrongRoom$Reader" (252 : Nat) "WrongRoom$Person") ∈ lw_all := lw_g (lw_at lw_m4 55 rfl) rfl
theorem q887 : (Jvm.Cond.methodLink "WrongRoom$Reader" (254 : Nat) ({ cls := "WrongRoom$Person", name := "<init>", desc := "(Ljava/lang/String;I)V" } : Jvm.MethodName)) ∈ lw_all := lw_g (lw_at lw_m4 57 rfl) rfl
theorem q892 : (Jvm.Cond.fieldLink "WrongRoom$Reader" (257 : Nat) "WrongRoom$Person" "home" "I") ∈ lw_all := lw_g (lw_at lw_m4 62 rfl) rfl
theorem q894 : (Jvm.Cond.fieldLink "WrongRoom$Reader" (260 : Nat) "WrongRoom$Person" "at" "I") ∈ lw_all := lw_g (lw_at lw_m4 64 rfl) rfl
theorem q902 : (Jvm.Cond.stringRef "WrongRoom$Reader" (255 : Nat) "home") ∈ lw_tbl := lw_at lw_m4 72 rfl
theorem q903 : (Jvm.Cond.stringRef "WrongRoom$Reader" (259 : Nat) "at") ∈ lw_tbl := lw_at lw_m4 73 rfl
theorem q904 : (Jvm.Cond.methodLink "WrongRoom$Reader" (160 : Nat) ({ cls := "WrongRoom$Reader", name := "signLine", desc := "()V" } : Jvm.MethodName)) ∈ lw_all := lw_g (lw_at lw_m4 74 rfl) rfl
theorem q905 : (Jvm.Cond.privateMethod ({ cls := "WrongRoom$Reader", name := "signLine", desc := "()V" } : Jvm.MethodName)) ∈ lw_tbl := lw_at lw_m4 75 rfl
theorem q906 : (Jvm.Cond.instanceMethod ({ cls := "WrongRoom$Reader", name := "signLine", desc := "()V" } : Jvm.MethodName)) ∈ lw_all := lw_g (lw_at lw_m4 76 rfl) rfl
theorem q907 : (Jvm.Cond.code ({ cls := "WrongRoom$Reader", name := "signLine", desc := "()V" } : Jvm.MethodName) prog_11_method_26_code (2 : Nat) (Option.none : Option Jvm.ClassFile.FieldType)) ∈ lw_all := lw_g (lw_at lw_m4 77 rfl) rfl
theorem q908 : (Jvm.Cond.classLink "WrongRoom$Reader" (275 : Nat) "WrongRoom$Sign") ∈ lw_all := lw_g (lw_at lw_m4 78 rfl) rfl
theorem q910 : (Jvm.Cond.methodLink "WrongRoom$Reader" (277 : Nat) ({ cls := "WrongRoom$Sign", name := "<init>", desc := "(ILjava/lang/String;)V" } : Jvm.MethodName)) ∈ lw_all := lw_g (lw_at lw_m4 80 rfl) rfl
theorem q926 : (Jvm.Cond.methodLink "WrongRoom$Reader" (280 : Nat) ({ cls := "WrongRoom$Reader", name := "note", desc := "(LWrongRoom$Notice;)V" } : Jvm.MethodName)) ∈ lw_all := lw_g (lw_at lw_m4 96 rfl) rfl
theorem q927 : (Jvm.Cond.privateMethod ({ cls := "WrongRoom$Reader", name := "note", desc := "(LWrongRoom$Notice;)V" } : Jvm.MethodName)) ∈ lw_tbl := lw_at lw_m4 97 rfl
theorem q928 : (Jvm.Cond.instanceMethod ({ cls := "WrongRoom$Reader", name := "note", desc := "(LWrongRoom$Notice;)V" } : Jvm.MethodName)) ∈ lw_all := lw_g (lw_at lw_m4 98 rfl) rfl
theorem q929 : (Jvm.Cond.code ({ cls := "WrongRoom$Reader", name := "note", desc := "(LWrongRoom$Notice;)V" } : Jvm.MethodName) prog_11_method_25_code (2 : Nat) (Option.none : Option Jvm.ClassFile.FieldType)) ∈ lw_all := lw_g (lw_at lw_m4 99 rfl) rfl
theorem q930 : (Jvm.Cond.methodLink "WrongRoom$Reader" (269 : Nat) ({ cls := "WrongRoom$Town", name := "noticeMany", desc := "()I" } : Jvm.MethodName)) ∈ lw_all := lw_g (lw_at lw_m4 100 rfl) rfl
theorem q934 : (Jvm.Cond.methodLink "WrongRoom$Reader" (163 : Nat) ({ cls := "WrongRoom$Reader", name := "noiseLine", desc := "()V" } : Jvm.MethodName)) ∈ lw_all := lw_g (lw_at lw_m4 104 rfl) rfl
theorem q935 : (Jvm.Cond.privateMethod ({ cls := "WrongRoom$Reader", name := "noiseLine", desc := "()V" } : Jvm.MethodName)) ∈ lw_tbl := lw_at lw_m4 105 rfl
theorem q936 : (Jvm.Cond.instanceMethod ({ cls := "WrongRoom$Reader", name := "noiseLine", desc := "()V" } : Jvm.MethodName)) ∈ lw_all := lw_g (lw_at lw_m4 106 rfl) rfl
theorem q937 : (Jvm.Cond.code ({ cls := "WrongRoom$Reader", name := "noiseLine", desc := "()V" } : Jvm.MethodName) prog_11_method_27_code (2 : Nat) (Option.none : Option Jvm.ClassFile.FieldType)) ∈ lw_all := lw_g (lw_at lw_m4 107 rfl) rfl
theorem q938 : (Jvm.Cond.classLink "WrongRoom$Reader" (287 : Nat) "WrongRoom$Noise") ∈ lw_all := lw_g (lw_at lw_m4 108 rfl) rfl
theorem q940 : (Jvm.Cond.methodLink "WrongRoom$Reader" (289 : Nat) ({ cls := "WrongRoom$Noise", name := "<init>", desc := "(II)V" } : Jvm.MethodName)) ∈ lw_all := lw_g (lw_at lw_m4 110 rfl) rfl
theorem q2169 : (Jvm.Cond.castable "WrongRoom$Reader" "java/lang/Object") ∈ lw_tbl := lw_at lw_m9 139 rfl
theorem in_X2 : ∀ w ∈ wsX20, w ∈ lw_all := lw_in wsX20 [240, 242, 244, 246, 248, 250, 252, 254, 256, 258, 260] (by decide +kernel) (by decide +kernel)
/-! java/lang/Throwable -/
set_option maxRecDepth 100000
def RJ0 : String := "java/lang/Throwable"
def TJ0 : u_T := fun k => match k with
  | 0 => ("java/lang/Throwable", "cause", "Ljava/lang/Throwable;", false)
  | 1 => ("java/lang/Throwable", "stackTrace", "[Ljava/lang/StackTraceElement;", false)
  | 2 => ("java/lang/Throwable", "suppressedExceptions", "Ljava/util/List;", false)
  | 3 => ("java/lang/Throwable", "detailMessage", "Ljava/lang/String;", false)
  | _ => ("java/lang/Throwable", "backtrace", "Ljava/lang/Object;", false)
def tyJ0 : Nat → FieldType := fun k => match k with
  | 0 => .object "java/lang/Throwable"
  | 1 => .array (.object "java/lang/StackTraceElement")
  | 2 => .object "java/util/List"
  | 3 => .object "java/lang/String"
  | _ => .object "java/lang/Object"
abbrev wsJ00 : List Cond := u_ws RJ0 TJ0 5
theorem nmJ0 : ∀ a, a < 5 → ∀ b, b < 5 → a ≠ b → (TJ0 a).2.1 ≠ (TJ0 b).2.1 := by decide +kernel
theorem tyJ0_ok : ∀ k, k < 5 → parseFieldDescriptor (TJ0 k).2.2.1 = some (tyJ0 k) := by decide +kernel
abbrev cJ0_init : ByteArray := prog_32_method_1_code
def yJ0_init : MethodName := ⟨RJ0, "<init>", "()V"⟩
def dkwJ0_init_1 : List UInt8 := [182, 0, 27, 87, 177]
abbrev dktJ0_init_1 : List UInt8 := dkwJ0_init_1 ++ []
def dkwJ0_init_0 : List UInt8 := [42, 183, 0, 1, 42, 42, 181, 0, 7, 42, 178, 0, 13, 181, 0, 17, 42, 178, 0, 20, 181, 0, 24, 42]
abbrev dktJ0_init_0 : List UInt8 := dkwJ0_init_0 ++ dktJ0_init_1
theorem dksJ0_init_0 : cJ0_init.data.toList.drop 0 = dktJ0_init_0 := by decide +kernel
theorem dksJ0_init_1 : cJ0_init.data.toList.drop 24 = dktJ0_init_1 := dk_seg dksJ0_init_0 24 rfl rfl
theorem dJ0_init_0 : decode cJ0_init 0 = .ok (.aload_n 0, 1) := dk_42 (dk_at dksJ0_init_0 0 rfl rfl)
theorem dJ0_init_1 : decode cJ0_init 1 = .ok (.invokespecial 1, 3) := dk_183 0 1 (dk_at dksJ0_init_0 1 rfl rfl)
theorem dJ0_init_4 : decode cJ0_init 4 = .ok (.aload_n 0, 1) := dk_42 (dk_at dksJ0_init_0 4 rfl rfl)
theorem dJ0_init_5 : decode cJ0_init 5 = .ok (.aload_n 0, 1) := dk_42 (dk_at dksJ0_init_0 5 rfl rfl)
theorem dJ0_init_6 : decode cJ0_init 6 = .ok (.putfield 7, 3) := dk_181 0 7 (dk_at dksJ0_init_0 6 rfl rfl)
theorem dJ0_init_9 : decode cJ0_init 9 = .ok (.aload_n 0, 1) := dk_42 (dk_at dksJ0_init_0 9 rfl rfl)
theorem dJ0_init_10 : decode cJ0_init 10 = .ok (.getstatic 13, 3) := dk_178 0 13 (dk_at dksJ0_init_0 10 rfl rfl)
theorem dJ0_init_13 : decode cJ0_init 13 = .ok (.putfield 17, 3) := dk_181 0 17 (dk_at dksJ0_init_0 13 rfl rfl)
theorem dJ0_init_16 : decode cJ0_init 16 = .ok (.aload_n 0, 1) := dk_42 (dk_at dksJ0_init_0 16 rfl rfl)
theorem dJ0_init_17 : decode cJ0_init 17 = .ok (.getstatic 20, 3) := dk_178 0 20 (dk_at dksJ0_init_0 17 rfl rfl)
theorem dJ0_init_20 : decode cJ0_init 20 = .ok (.putfield 24, 3) := dk_181 0 24 (dk_at dksJ0_init_0 20 rfl rfl)
theorem dJ0_init_23 : decode cJ0_init 23 = .ok (.aload_n 0, 1) := dk_42 (dk_at dksJ0_init_0 23 rfl rfl)
theorem dJ0_init_24 : decode cJ0_init 24 = .ok (.invokevirtual 27, 3) := dk_182 0 27 (dk_at dksJ0_init_1 0 rfl rfl)
theorem dJ0_init_27 : decode cJ0_init 27 = .ok (.pop, 1) := dk_87 (dk_at dksJ0_init_1 3 rfl rfl)
theorem dJ0_init_28 : decode cJ0_init 28 = .ok (.return_, 1) := dk_177 (dk_at dksJ0_init_1 4 rfl rfl)
abbrev cJ0_init_2 : ByteArray := prog_32_method_5_code
def yJ0_init_2 : MethodName := ⟨RJ0, "<init>", "(Ljava/lang/String;Ljava/lang/Throwable;ZZ)V"⟩
def dkwJ0_init_2_2 : List UInt8 := [44, 181, 0, 7, 29, 154, 0, 8, 42, 1, 181, 0, 24, 177]
abbrev dktJ0_init_2_2 : List UInt8 := dkwJ0_init_2_2 ++ []
def dkwJ0_init_2_1 : List UInt8 := [21, 4, 153, 0, 11, 42, 182, 0, 27, 87, 167, 0, 8, 42, 1, 181, 0, 17, 42, 43, 181, 0, 31, 42]
abbrev dktJ0_init_2_1 : List UInt8 := dkwJ0_init_2_1 ++ dktJ0_init_2_2
def dkwJ0_init_2_0 : List UInt8 := [42, 183, 0, 1, 42, 42, 181, 0, 7, 42, 178, 0, 13, 181, 0, 17, 42, 178, 0, 20, 181, 0, 24]
abbrev dktJ0_init_2_0 : List UInt8 := dkwJ0_init_2_0 ++ dktJ0_init_2_1
theorem dksJ0_init_2_0 : cJ0_init_2.data.toList.drop 0 = dktJ0_init_2_0 := by decide +kernel
theorem dksJ0_init_2_1 : cJ0_init_2.data.toList.drop 23 = dktJ0_init_2_1 := dk_seg dksJ0_init_2_0 23 rfl rfl
theorem dksJ0_init_2_2 : cJ0_init_2.data.toList.drop 47 = dktJ0_init_2_2 := dk_seg dksJ0_init_2_1 24 rfl rfl
theorem dJ0_init_2_0 : decode cJ0_init_2 0 = .ok (.aload_n 0, 1) := dk_42 (dk_at dksJ0_init_2_0 0 rfl rfl)
theorem dJ0_init_2_1 : decode cJ0_init_2 1 = .ok (.invokespecial 1, 3) := dk_183 0 1 (dk_at dksJ0_init_2_0 1 rfl rfl)
theorem dJ0_init_2_4 : decode cJ0_init_2 4 = .ok (.aload_n 0, 1) := dk_42 (dk_at dksJ0_init_2_0 4 rfl rfl)
theorem dJ0_init_2_5 : decode cJ0_init_2 5 = .ok (.aload_n 0, 1) := dk_42 (dk_at dksJ0_init_2_0 5 rfl rfl)
theorem dJ0_init_2_6 : decode cJ0_init_2 6 = .ok (.putfield 7, 3) := dk_181 0 7 (dk_at dksJ0_init_2_0 6 rfl rfl)
theorem dJ0_init_2_9 : decode cJ0_init_2 9 = .ok (.aload_n 0, 1) := dk_42 (dk_at dksJ0_init_2_0 9 rfl rfl)
theorem dJ0_init_2_10 : decode cJ0_init_2 10 = .ok (.getstatic 13, 3) := dk_178 0 13 (dk_at dksJ0_init_2_0 10 rfl rfl)
theorem dJ0_init_2_13 : decode cJ0_init_2 13 = .ok (.putfield 17, 3) := dk_181 0 17 (dk_at dksJ0_init_2_0 13 rfl rfl)
theorem dJ0_init_2_16 : decode cJ0_init_2 16 = .ok (.aload_n 0, 1) := dk_42 (dk_at dksJ0_init_2_0 16 rfl rfl)
theorem dJ0_init_2_17 : decode cJ0_init_2 17 = .ok (.getstatic 20, 3) := dk_178 0 20 (dk_at dksJ0_init_2_0 17 rfl rfl)
theorem dJ0_init_2_20 : decode cJ0_init_2 20 = .ok (.putfield 24, 3) := dk_181 0 24 (dk_at dksJ0_init_2_0 20 rfl rfl)
theorem dJ0_init_2_23 : decode cJ0_init_2 23 = .ok (.iload 4, 2) := dk_21 4 (dk_at dksJ0_init_2_1 0 rfl rfl)
theorem dJ0_init_2_25 : decode cJ0_init_2 25 = .ok (.ifCond .eq 11, 3) := dk_153 0 11 (dk_at dksJ0_init_2_1 2 rfl rfl)
theorem dJ0_init_2_28 : decode cJ0_init_2 28 = .ok (.aload_n 0, 1) := dk_42 (dk_at dksJ0_init_2_1 5 rfl rfl)
theorem dJ0_init_2_29 : decode cJ0_init_2 29 = .ok (.invokevirtual 27, 3) := dk_182 0 27 (dk_at dksJ0_init_2_1 6 rfl rfl)
theorem dJ0_init_2_32 : decode cJ0_init_2 32 = .ok (.pop, 1) := dk_87 (dk_at dksJ0_init_2_1 9 rfl rfl)
theorem dJ0_init_2_33 : decode cJ0_init_2 33 = .ok (.goto 8, 3) := dk_167 0 8 (dk_at dksJ0_init_2_1 10 rfl rfl)
theorem dJ0_init_2_36 : decode cJ0_init_2 36 = .ok (.aload_n 0, 1) := dk_42 (dk_at dksJ0_init_2_1 13 rfl rfl)
theorem dJ0_init_2_37 : decode cJ0_init_2 37 = .ok (.aconst_null, 1) := dk_1 (dk_at dksJ0_init_2_1 14 rfl rfl)
theorem dJ0_init_2_38 : decode cJ0_init_2 38 = .ok (.putfield 17, 3) := dk_181 0 17 (dk_at dksJ0_init_2_1 15 rfl rfl)
theorem dJ0_init_2_41 : decode cJ0_init_2 41 = .ok (.aload_n 0, 1) := dk_42 (dk_at dksJ0_init_2_1 18 rfl rfl)
theorem dJ0_init_2_42 : decode cJ0_init_2 42 = .ok (.aload_n 1, 1) := dk_43 (dk_at dksJ0_init_2_1 19 rfl rfl)
theorem dJ0_init_2_43 : decode cJ0_init_2 43 = .ok (.putfield 31, 3) := dk_181 0 31 (dk_at dksJ0_init_2_1 20 rfl rfl)
theorem dJ0_init_2_46 : decode cJ0_init_2 46 = .ok (.aload_n 0, 1) := dk_42 (dk_at dksJ0_init_2_1 23 rfl rfl)
theorem dJ0_init_2_47 : decode cJ0_init_2 47 = .ok (.aload_n 2, 1) := dk_44 (dk_at dksJ0_init_2_2 0 rfl rfl)
theorem dJ0_init_2_48 : decode cJ0_init_2 48 = .ok (.putfield 7, 3) := dk_181 0 7 (dk_at dksJ0_init_2_2 1 rfl rfl)
theorem dJ0_init_2_51 : decode cJ0_init_2 51 = .ok (.iload_n 3, 1) := dk_29 (dk_at dksJ0_init_2_2 4 rfl rfl)
theorem dJ0_init_2_52 : decode cJ0_init_2 52 = .ok (.ifCond .ne 8, 3) := dk_154 0 8 (dk_at dksJ0_init_2_2 5 rfl rfl)
theorem dJ0_init_2_55 : decode cJ0_init_2 55 = .ok (.aload_n 0, 1) := dk_42 (dk_at dksJ0_init_2_2 8 rfl rfl)
theorem dJ0_init_2_56 : decode cJ0_init_2 56 = .ok (.aconst_null, 1) := dk_1 (dk_at dksJ0_init_2_2 9 rfl rfl)
theorem dJ0_init_2_57 : decode cJ0_init_2 57 = .ok (.putfield 24, 3) := dk_181 0 24 (dk_at dksJ0_init_2_2 10 rfl rfl)
theorem dJ0_init_2_60 : decode cJ0_init_2 60 = .ok (.return_, 1) := dk_177 (dk_at dksJ0_init_2_2 13 rfl rfl)
theorem q113 : (Jvm.Cond.initialized "java/lang/Throwable") ∈ lw_all := lw_g (lw_at lw_m1 3 rfl) rfl
theorem q162 : (Jvm.Cond.declares ({ cls := "java/lang/Throwable", name := "<init>", desc := "()V" } : Jvm.MethodName)) ∈ lw_tbl := lw_at lw_m1 52 rfl
theorem q163 : (Jvm.Cond.declares ({ cls := "java/lang/Throwable", name := "<init>", desc := "(Ljava/lang/String;)V" } : Jvm.MethodName)) ∈ lw_tbl := lw_at lw_m1 53 rfl
theorem q167 : (Jvm.Cond.lays "java/lang/Throwable" "java/lang/Throwable" "cause" "Ljava/lang/Throwable;") ∈ lw_all := lw_g (lw_at lw_m1 57 rfl) rfl
theorem q169 : (Jvm.Cond.lays "java/lang/Throwable" "java/lang/Throwable" "stackTrace" "[Ljava/lang/StackTraceElement;") ∈ lw_all := lw_g (lw_at lw_m1 59 rfl) rfl
theorem q171 : (Jvm.Cond.lays "java/lang/Throwable" "java/lang/Throwable" "suppressedExceptions" "Ljava/util/List;") ∈ lw_all := lw_g (lw_at lw_m1 61 rfl) rfl
theorem q173 : (Jvm.Cond.lays "java/lang/Throwable" "java/lang/Throwable" "detailMessage" "Ljava/lang/String;") ∈ lw_all := lw_g (lw_at lw_m1 63 rfl) rfl
theorem q175 : (Jvm.Cond.lays "java/lang/Throwable" "java/lang/Throwable" "backtrace" "Ljava/lang/Object;") ∈ lw_all := lw_g (lw_at lw_m1 65 rfl) rfl
theorem q176 : (Jvm.Cond.fieldLink "java/lang/Throwable" (198 : Nat) "java/lang/Throwable" "backtrace" "Ljava/lang/Object;") ∈ lw_all := lw_g (lw_at lw_m1 66 rfl) rfl
theorem q177 : (Jvm.Cond.superclass "java/lang/Throwable" "java/lang/Object") ∈ lw_all := lw_g (lw_at lw_m1 67 rfl) rfl
theorem q178 : (Jvm.Cond.instanceMethod ({ cls := "java/lang/Throwable", name := "<init>", desc := "()V" } : Jvm.MethodName)) ∈ lw_all := lw_g (lw_at lw_m1 68 rfl) rfl
theorem q179 : (Jvm.Cond.code ({ cls := "java/lang/Throwable", name := "<init>", desc := "()V" } : Jvm.MethodName) prog_32_method_1_code (1 : Nat) (Option.none : Option Jvm.ClassFile.FieldType)) ∈ lw_all := lw_g (lw_at lw_m1 69 rfl) rfl
theorem q180 : (Jvm.Cond.methodLink "java/lang/Throwable" (1 : Nat) ({ cls := "java/lang/Object", name := "<init>", desc := "()V" } : Jvm.MethodName)) ∈ lw_all := lw_g (lw_at lw_m1 70 rfl) rfl
theorem q181 : (Jvm.Cond.fieldLink "java/lang/Throwable" (13 : Nat) "java/lang/Throwable" "UNASSIGNED_STACK" "[Ljava/lang/StackTraceElement;") ∈ lw_all := lw_g (lw_at lw_m1 71 rfl) rfl
theorem q182 : (Jvm.Cond.laysStatic "java/lang/Throwable" "UNASSIGNED_STACK" "[Ljava/lang/StackTraceElement;") ∈ lw_tbl := lw_at lw_m1 72 rfl
theorem q183 : (Jvm.Cond.fieldLink "java/lang/Throwable" (20 : Nat) "java/lang/Throwable" "SUPPRESSED_SENTINEL" "Ljava/util/List;") ∈ lw_all := lw_g (lw_at lw_m1 73 rfl) rfl
theorem q184 : (Jvm.Cond.laysStatic "java/lang/Throwable" "SUPPRESSED_SENTINEL" "Ljava/util/List;") ∈ lw_tbl := lw_at lw_m1 74 rfl
theorem q185 : (Jvm.Cond.methodLink "java/lang/Throwable" (27 : Nat) ({ cls := "java/lang/Throwable", name := "fillInStackTrace", desc := "()Ljava/lang/Throwable;" } : Jvm.MethodName)) ∈ lw_all := lw_g (lw_at lw_m1 75 rfl) rfl
theorem q186 : (Jvm.Cond.instanceMethod ({ cls := "java/lang/Throwable", name := "fillInStackTrace", desc := "()Ljava/lang/Throwable;" } : Jvm.MethodName)) ∈ lw_all := lw_g (lw_at lw_m1 76 rfl) rfl
theorem q187 : (Jvm.Cond.sameMethod "java/lang/Throwable" "java/lang/Throwable" "fillInStackTrace" "()Ljava/lang/Throwable;") ∈ lw_all := lw_g (lw_at lw_m1 77 rfl) rfl
theorem q189 : (Jvm.Cond.codeSync ({ cls := "java/lang/Throwable", name := "fillInStackTrace", desc := "()Ljava/lang/Throwable;" } : Jvm.MethodName) prog_32_method_18_code (1 : Nat) (Option.some (Jvm.ClassFile.FieldType.object "java/lang/Throwable"))) ∈ lw_all := lw_g (lw_at lw_m1 79 rfl) rfl
theorem q190 : (Jvm.Cond.methodLink "java/lang/Throwable" (202 : Nat) ({ cls := "java/lang/Throwable", name := "fillInStackTrace", desc := "(I)Ljava/lang/Throwable;" } : Jvm.MethodName)) ∈ lw_all := lw_g (lw_at lw_m1 80 rfl) rfl
theorem q191 : (Jvm.Cond.privateMethod ({ cls := "java/lang/Throwable", name := "fillInStackTrace", desc := "(I)Ljava/lang/Throwable;" } : Jvm.MethodName)) ∈ lw_tbl := lw_at lw_m1 81 rfl
theorem q192 : (Jvm.Cond.instanceMethod ({ cls := "java/lang/Throwable", name := "fillInStackTrace", desc := "(I)Ljava/lang/Throwable;" } : Jvm.MethodName)) ∈ lw_all := lw_g (lw_at lw_m1 82 rfl) rfl
theorem q193 : (Jvm.Cond.instantiable "java/lang/Throwable" (6 : Nat)) ∈ lw_all := lw_g (lw_at lw_m1 83 rfl) rfl
theorem q194 : (Jvm.Cond.native ({ cls := "java/lang/Throwable", name := "fillInStackTrace", desc := "(I)Ljava/lang/Throwable;" } : Jvm.MethodName)) ∈ lw_all := lw_g (lw_at lw_m1 84 rfl) rfl
theorem q205 : (Jvm.Cond.instanceMethod ({ cls := "java/lang/Throwable", name := "<init>", desc := "(Ljava/lang/String;Ljava/lang/Throwable;ZZ)V" } : Jvm.MethodName)) ∈ lw_all := lw_g (lw_at lw_m1 95 rfl) rfl
theorem q206 : (Jvm.Cond.code ({ cls := "java/lang/Throwable", name := "<init>", desc := "(Ljava/lang/String;Ljava/lang/Throwable;ZZ)V" } : Jvm.MethodName) prog_32_method_5_code (5 : Nat) (Option.none : Option Jvm.ClassFile.FieldType)) ∈ lw_all := lw_g (lw_at lw_m1 96 rfl) rfl
theorem q211 : (Jvm.Cond.fieldLink "java/lang/Throwable" (198 : Nat) "java/lang/Throwable" "backtrace" "Ljava/lang/Object;") ∈ lw_all := lw_g (lw_at lw_m1 101 rfl) rfl
theorem q212 : (Jvm.Cond.fieldLink "java/lang/Throwable" (31 : Nat) "java/lang/Throwable" "detailMessage" "Ljava/lang/String;") ∈ lw_all := lw_g (lw_at lw_m1 102 rfl) rfl
theorem q213 : (Jvm.Cond.fieldLink "java/lang/Throwable" (7 : Nat) "java/lang/Throwable" "cause" "Ljava/lang/Throwable;") ∈ lw_all := lw_g (lw_at lw_m1 103 rfl) rfl
theorem q214 : (Jvm.Cond.fieldLink "java/lang/Throwable" (17 : Nat) "java/lang/Throwable" "stackTrace" "[Ljava/lang/StackTraceElement;") ∈ lw_all := lw_g (lw_at lw_m1 104 rfl) rfl
theorem q215 : (Jvm.Cond.fieldLink "java/lang/Throwable" (24 : Nat) "java/lang/Throwable" "suppressedExceptions" "Ljava/util/List;") ∈ lw_all := lw_g (lw_at lw_m1 105 rfl) rfl
theorem q220 : (Jvm.Cond.soleField "java/lang/Throwable" "backtrace") ∈ lw_all := lw_g (lw_at lw_m1 110 rfl) rfl
theorem q221 : (Jvm.Cond.soleField "java/lang/Throwable" "detailMessage") ∈ lw_all := lw_g (lw_at lw_m1 111 rfl) rfl
theorem q222 : (Jvm.Cond.soleField "java/lang/Throwable" "cause") ∈ lw_all := lw_g (lw_at lw_m1 112 rfl) rfl
theorem q223 : (Jvm.Cond.soleField "java/lang/Throwable" "stackTrace") ∈ lw_all := lw_g (lw_at lw_m1 113 rfl) rfl
theorem q225 : (Jvm.Cond.soleField "java/lang/Throwable" "depth") ∈ lw_all := lw_g (lw_at lw_m1 115 rfl) rfl
theorem q226 : (Jvm.Cond.soleField "java/lang/Throwable" "suppressedExceptions") ∈ lw_all := lw_g (lw_at lw_m1 116 rfl) rfl
theorem q2166 : (Jvm.Cond.sameMethod "java/lang/Throwable" "java/lang/Throwable" "fillInStackTrace" "(I)Ljava/lang/Throwable;") ∈ lw_all := lw_g (lw_at lw_m9 136 rfl) rfl
theorem q2187 : (Jvm.Cond.castable "java/lang/Throwable" "java/lang/Object") ∈ lw_tbl := lw_at lw_m9 157 rfl
theorem in_J0 : ∀ w ∈ wsJ00, w ∈ lw_all := lw_in wsJ00 [167, 169, 171, 173, 175] (by decide +kernel) (by decide +kernel)
/-! java/lang/Exception -/
set_option maxRecDepth 100000
def RJ1 : String := "java/lang/Exception"
abbrev cJ1_init : ByteArray := prog_24_method_5_code
def yJ1_init : MethodName := ⟨RJ1, "<init>", "(Ljava/lang/String;Ljava/lang/Throwable;ZZ)V"⟩
def dkwJ1_init_0 : List UInt8 := [42, 43, 44, 29, 21, 4, 183, 0, 16, 177]
abbrev dktJ1_init_0 : List UInt8 := dkwJ1_init_0 ++ []
theorem dksJ1_init_0 : cJ1_init.data.toList.drop 0 = dktJ1_init_0 := by decide +kernel
theorem dJ1_init_0 : decode cJ1_init 0 = .ok (.aload_n 0, 1) := dk_42 (dk_at dksJ1_init_0 0 rfl rfl)
theorem dJ1_init_1 : decode cJ1_init 1 = .ok (.aload_n 1, 1) := dk_43 (dk_at dksJ1_init_0 1 rfl rfl)
theorem dJ1_init_2 : decode cJ1_init 2 = .ok (.aload_n 2, 1) := dk_44 (dk_at dksJ1_init_0 2 rfl rfl)
theorem dJ1_init_3 : decode cJ1_init 3 = .ok (.iload_n 3, 1) := dk_29 (dk_at dksJ1_init_0 3 rfl rfl)
theorem dJ1_init_4 : decode cJ1_init 4 = .ok (.iload 4, 2) := dk_21 4 (dk_at dksJ1_init_0 4 rfl rfl)
theorem dJ1_init_6 : decode cJ1_init 6 = .ok (.invokespecial 16, 3) := dk_183 0 16 (dk_at dksJ1_init_0 6 rfl rfl)
theorem dJ1_init_9 : decode cJ1_init 9 = .ok (.return_, 1) := dk_177 (dk_at dksJ1_init_0 9 rfl rfl)
abbrev cJ1_init_2 : ByteArray := prog_24_method_1_code
def yJ1_init_2 : MethodName := ⟨RJ1, "<init>", "()V"⟩
theorem dJ1_init_2_0 : decode cJ1_init_2 0 = .ok (.aload_n 0, 1) := by decide +kernel
theorem dJ1_init_2_1 : decode cJ1_init_2 1 = .ok (.invokespecial 1, 3) := by decide +kernel
theorem dJ1_init_2_4 : decode cJ1_init_2 4 = .ok (.return_, 1) := by decide +kernel
theorem q114 : (Jvm.Cond.initialized "java/lang/Exception") ∈ lw_all := lw_g (lw_at lw_m1 4 rfl) rfl
theorem q160 : (Jvm.Cond.declares ({ cls := "java/lang/Exception", name := "<init>", desc := "()V" } : Jvm.MethodName)) ∈ lw_tbl := lw_at lw_m1 50 rfl
theorem q161 : (Jvm.Cond.declares ({ cls := "java/lang/Exception", name := "<init>", desc := "(Ljava/lang/String;)V" } : Jvm.MethodName)) ∈ lw_tbl := lw_at lw_m1 51 rfl
theorem q202 : (Jvm.Cond.instanceMethod ({ cls := "java/lang/Exception", name := "<init>", desc := "(Ljava/lang/String;Ljava/lang/Throwable;ZZ)V" } : Jvm.MethodName)) ∈ lw_all := lw_g (lw_at lw_m1 92 rfl) rfl
theorem q203 : (Jvm.Cond.code ({ cls := "java/lang/Exception", name := "<init>", desc := "(Ljava/lang/String;Ljava/lang/Throwable;ZZ)V" } : Jvm.MethodName) prog_24_method_5_code (5 : Nat) (Option.none : Option Jvm.ClassFile.FieldType)) ∈ lw_all := lw_g (lw_at lw_m1 93 rfl) rfl
theorem q204 : (Jvm.Cond.methodLink "java/lang/Exception" (16 : Nat) ({ cls := "java/lang/Throwable", name := "<init>", desc := "(Ljava/lang/String;Ljava/lang/Throwable;ZZ)V" } : Jvm.MethodName)) ∈ lw_all := lw_g (lw_at lw_m1 94 rfl) rfl
theorem q1392 : (Jvm.Cond.instanceMethod ({ cls := "java/lang/Exception", name := "<init>", desc := "()V" } : Jvm.MethodName)) ∈ lw_all := lw_g (lw_at lw_m6 82 rfl) rfl
theorem q1393 : (Jvm.Cond.code ({ cls := "java/lang/Exception", name := "<init>", desc := "()V" } : Jvm.MethodName) prog_24_method_1_code (1 : Nat) (Option.none : Option Jvm.ClassFile.FieldType)) ∈ lw_all := lw_g (lw_at lw_m6 83 rfl) rfl
theorem q1394 : (Jvm.Cond.methodLink "java/lang/Exception" (1 : Nat) ({ cls := "java/lang/Throwable", name := "<init>", desc := "()V" } : Jvm.MethodName)) ∈ lw_all := lw_g (lw_at lw_m6 84 rfl) rfl
/-! java/lang/RuntimeException -/
set_option maxRecDepth 100000
def RJ2 : String := "java/lang/RuntimeException"
abbrev cJ2_init : ByteArray := prog_26_method_5_code
def yJ2_init : MethodName := ⟨RJ2, "<init>", "(Ljava/lang/String;Ljava/lang/Throwable;ZZ)V"⟩
def dkwJ2_init_0 : List UInt8 := [42, 43, 44, 29, 21, 4, 183, 0, 16, 177]
abbrev dktJ2_init_0 : List UInt8 := dkwJ2_init_0 ++ []
theorem dksJ2_init_0 : cJ2_init.data.toList.drop 0 = dktJ2_init_0 := by decide +kernel
theorem dJ2_init_0 : decode cJ2_init 0 = .ok (.aload_n 0, 1) := dk_42 (dk_at dksJ2_init_0 0 rfl rfl)
theorem dJ2_init_1 : decode cJ2_init 1 = .ok (.aload_n 1, 1) := dk_43 (dk_at dksJ2_init_0 1 rfl rfl)
theorem dJ2_init_2 : decode cJ2_init 2 = .ok (.aload_n 2, 1) := dk_44 (dk_at dksJ2_init_0 2 rfl rfl)
theorem dJ2_init_3 : decode cJ2_init 3 = .ok (.iload_n 3, 1) := dk_29 (dk_at dksJ2_init_0 3 rfl rfl)
theorem dJ2_init_4 : decode cJ2_init 4 = .ok (.iload 4, 2) := dk_21 4 (dk_at dksJ2_init_0 4 rfl rfl)
theorem dJ2_init_6 : decode cJ2_init 6 = .ok (.invokespecial 16, 3) := dk_183 0 16 (dk_at dksJ2_init_0 6 rfl rfl)
theorem dJ2_init_9 : decode cJ2_init 9 = .ok (.return_, 1) := dk_177 (dk_at dksJ2_init_0 9 rfl rfl)
abbrev cJ2_init_2 : ByteArray := prog_26_method_1_code
def yJ2_init_2 : MethodName := ⟨RJ2, "<init>", "()V"⟩
theorem dJ2_init_2_0 : decode cJ2_init_2 0 = .ok (.aload_n 0, 1) := by decide +kernel
theorem dJ2_init_2_1 : decode cJ2_init_2 1 = .ok (.invokespecial 1, 3) := by decide +kernel
theorem dJ2_init_2_4 : decode cJ2_init_2 4 = .ok (.return_, 1) := by decide +kernel
theorem q115 : (Jvm.Cond.initialized "java/lang/RuntimeException") ∈ lw_all := lw_g (lw_at lw_m1 5 rfl) rfl
theorem q158 : (Jvm.Cond.declares ({ cls := "java/lang/RuntimeException", name := "<init>", desc := "()V" } : Jvm.MethodName)) ∈ lw_tbl := lw_at lw_m1 48 rfl
theorem q159 : (Jvm.Cond.declares ({ cls := "java/lang/RuntimeException", name := "<init>", desc := "(Ljava/lang/String;)V" } : Jvm.MethodName)) ∈ lw_tbl := lw_at lw_m1 49 rfl
theorem q199 : (Jvm.Cond.instanceMethod ({ cls := "java/lang/RuntimeException", name := "<init>", desc := "(Ljava/lang/String;Ljava/lang/Throwable;ZZ)V" } : Jvm.MethodName)) ∈ lw_all := lw_g (lw_at lw_m1 89 rfl) rfl
theorem q200 : (Jvm.Cond.code ({ cls := "java/lang/RuntimeException", name := "<init>", desc := "(Ljava/lang/String;Ljava/lang/Throwable;ZZ)V" } : Jvm.MethodName) prog_26_method_5_code (5 : Nat) (Option.none : Option Jvm.ClassFile.FieldType)) ∈ lw_all := lw_g (lw_at lw_m1 90 rfl) rfl
theorem q201 : (Jvm.Cond.methodLink "java/lang/RuntimeException" (16 : Nat) ({ cls := "java/lang/Exception", name := "<init>", desc := "(Ljava/lang/String;Ljava/lang/Throwable;ZZ)V" } : Jvm.MethodName)) ∈ lw_all := lw_g (lw_at lw_m1 91 rfl) rfl
theorem q1389 : (Jvm.Cond.instanceMethod ({ cls := "java/lang/RuntimeException", name := "<init>", desc := "()V" } : Jvm.MethodName)) ∈ lw_all := lw_g (lw_at lw_m6 79 rfl) rfl
theorem q1390 : (Jvm.Cond.code ({ cls := "java/lang/RuntimeException", name := "<init>", desc := "()V" } : Jvm.MethodName) prog_26_method_1_code (1 : Nat) (Option.none : Option Jvm.ClassFile.FieldType)) ∈ lw_all := lw_g (lw_at lw_m6 80 rfl) rfl
theorem q1391 : (Jvm.Cond.methodLink "java/lang/RuntimeException" (1 : Nat) ({ cls := "java/lang/Exception", name := "<init>", desc := "()V" } : Jvm.MethodName)) ∈ lw_all := lw_g (lw_at lw_m6 81 rfl) rfl
/-! WrongRoom$Refused -/
set_option maxRecDepth 100000
def RX3 : String := "WrongRoom$Refused"
def TX3 : u_T := fun k => match k with
  | 0 => ("java/lang/Throwable", "cause", "Ljava/lang/Throwable;", false)
  | 1 => ("java/lang/Throwable", "stackTrace", "[Ljava/lang/StackTraceElement;", false)
  | 2 => ("java/lang/Throwable", "suppressedExceptions", "Ljava/util/List;", false)
  | 3 => ("java/lang/Throwable", "detailMessage", "Ljava/lang/String;", false)
  | 4 => ("java/lang/Throwable", "backtrace", "Ljava/lang/Object;", false)
  | 5 => ("java/lang/Throwable", "depth", "I", false)
  | 6 => ("WrongRoom$Refused", "fault", "I", false)
  | _ => ("WrongRoom$Refused", "place", "I", false)
def tyX3 : Nat → FieldType := fun k => match k with
  | 0 => .object "java/lang/Throwable"
  | 1 => .array (.object "java/lang/StackTraceElement")
  | 2 => .object "java/util/List"
  | 3 => .object "java/lang/String"
  | 4 => .object "java/lang/Object"
  | 5 => .int
  | 6 => .int
  | _ => .int
abbrev wsX30 : List Cond := u_ws RX3 TX3 8
theorem nmX3 : ∀ a, a < 8 → ∀ b, b < 8 → a ≠ b → (TX3 a).2.1 ≠ (TX3 b).2.1 := by decide +kernel
theorem tyX3_ok : ∀ k, k < 8 → parseFieldDescriptor (TX3 k).2.2.1 = some (tyX3 k) := by decide +kernel
abbrev cX3_init : ByteArray := prog_12_method_1_code
def yX3_init : MethodName := ⟨RX3, "<init>", "()V"⟩
def dkwX3_init_0 : List UInt8 := [42, 1, 1, 3, 3, 183, 0, 3, 42, 2, 181, 0, 9, 177]
abbrev dktX3_init_0 : List UInt8 := dkwX3_init_0 ++ []
theorem dksX3_init_0 : cX3_init.data.toList.drop 0 = dktX3_init_0 := by decide +kernel
theorem dX3_init_0 : decode cX3_init 0 = .ok (.aload_n 0, 1) := dk_42 (dk_at dksX3_init_0 0 rfl rfl)
theorem dX3_init_1 : decode cX3_init 1 = .ok (.aconst_null, 1) := dk_1 (dk_at dksX3_init_0 1 rfl rfl)
theorem dX3_init_2 : decode cX3_init 2 = .ok (.aconst_null, 1) := dk_1 (dk_at dksX3_init_0 2 rfl rfl)
theorem dX3_init_3 : decode cX3_init 3 = .ok (.iconst 0, 1) := dk_3 (dk_at dksX3_init_0 3 rfl rfl)
theorem dX3_init_4 : decode cX3_init 4 = .ok (.iconst 0, 1) := dk_3 (dk_at dksX3_init_0 4 rfl rfl)
theorem dX3_init_5 : decode cX3_init 5 = .ok (.invokespecial 3, 3) := dk_183 0 3 (dk_at dksX3_init_0 5 rfl rfl)
theorem dX3_init_8 : decode cX3_init 8 = .ok (.aload_n 0, 1) := dk_42 (dk_at dksX3_init_0 8 rfl rfl)
theorem dX3_init_9 : decode cX3_init 9 = .ok (.iconst (-1), 1) := dk_2 (dk_at dksX3_init_0 9 rfl rfl)
theorem dX3_init_10 : decode cX3_init 10 = .ok (.putfield 9, 3) := dk_181 0 9 (dk_at dksX3_init_0 10 rfl rfl)
theorem dX3_init_13 : decode cX3_init 13 = .ok (.return_, 1) := dk_177 (dk_at dksX3_init_0 13 rfl rfl)
abbrev cX3_at : ByteArray := prog_12_method_2_code
def yX3_at : MethodName := ⟨RX3, "at", "(II)LWrongRoom$Refused;"⟩
def dkwX3_at_0 : List UInt8 := [42, 27, 181, 0, 15, 42, 28, 181, 0, 9, 42, 176]
abbrev dktX3_at_0 : List UInt8 := dkwX3_at_0 ++ []
theorem dksX3_at_0 : cX3_at.data.toList.drop 0 = dktX3_at_0 := by decide +kernel
theorem dX3_at_0 : decode cX3_at 0 = .ok (.aload_n 0, 1) := dk_42 (dk_at dksX3_at_0 0 rfl rfl)
theorem dX3_at_1 : decode cX3_at 1 = .ok (.iload_n 1, 1) := dk_27 (dk_at dksX3_at_0 1 rfl rfl)
theorem dX3_at_2 : decode cX3_at 2 = .ok (.putfield 15, 3) := dk_181 0 15 (dk_at dksX3_at_0 2 rfl rfl)
theorem dX3_at_5 : decode cX3_at 5 = .ok (.aload_n 0, 1) := dk_42 (dk_at dksX3_at_0 5 rfl rfl)
theorem dX3_at_6 : decode cX3_at 6 = .ok (.iload_n 2, 1) := dk_28 (dk_at dksX3_at_0 6 rfl rfl)
theorem dX3_at_7 : decode cX3_at 7 = .ok (.putfield 9, 3) := dk_181 0 9 (dk_at dksX3_at_0 7 rfl rfl)
theorem dX3_at_10 : decode cX3_at 10 = .ok (.aload_n 0, 1) := dk_42 (dk_at dksX3_at_0 10 rfl rfl)
theorem dX3_at_11 : decode cX3_at 11 = .ok (.areturn, 1) := dk_176 (dk_at dksX3_at_0 11 rfl rfl)
theorem q116 : (Jvm.Cond.initialized "WrongRoom$Refused") ∈ lw_all := lw_g (lw_at lw_m1 6 rfl) rfl
theorem q156 : (Jvm.Cond.instantiable "WrongRoom$Refused" (8 : Nat)) ∈ lw_all := lw_g (lw_at lw_m1 46 rfl) rfl
theorem q157 : (Jvm.Cond.castable "WrongRoom$Refused" "WrongRoom$Refused") ∈ lw_tbl := lw_at lw_m1 47 rfl
theorem q164 : (Jvm.Cond.selects "WrongRoom$Refused" ({ cls := "java/lang/Throwable", name := "fillInStackTrace", desc := "(I)Ljava/lang/Throwable;" } : Jvm.MethodName) ({ cls := "java/lang/Throwable", name := "fillInStackTrace", desc := "(I)Ljava/lang/Throwable;" } : Jvm.MethodName)) ∈ lw_all := lw_g (lw_at lw_m1 54 rfl) rfl
theorem q165 : (Jvm.Cond.selects "WrongRoom$Refused" ({ cls := "java/lang/Throwable", name := "fillInStackTrace", desc := "()Ljava/lang/Throwable;" } : Jvm.MethodName) ({ cls := "java/lang/Throwable", name := "fillInStackTrace", desc := "()Ljava/lang/Throwable;" } : Jvm.MethodName)) ∈ lw_all := lw_g (lw_at lw_m1 55 rfl) rfl
theorem q166 : (Jvm.Cond.lays "WrongRoom$Refused" "java/lang/Throwable" "cause" "Ljava/lang/Throwable;") ∈ lw_all := lw_g (lw_at lw_m1 56 rfl) rfl
theorem q168 : (Jvm.Cond.lays "WrongRoom$Refused" "java/lang/Throwable" "stackTrace" "[Ljava/lang/StackTraceElement;") ∈ lw_all := lw_g (lw_at lw_m1 58 rfl) rfl
theorem q170 : (Jvm.Cond.lays "WrongRoom$Refused" "java/lang/Throwable" "suppressedExceptions" "Ljava/util/List;") ∈ lw_all := lw_g (lw_at lw_m1 60 rfl) rfl
theorem q172 : (Jvm.Cond.lays "WrongRoom$Refused" "java/lang/Throwable" "detailMessage" "Ljava/lang/String;") ∈ lw_all := lw_g (lw_at lw_m1 62 rfl) rfl
theorem q174 : (Jvm.Cond.lays "WrongRoom$Refused" "java/lang/Throwable" "backtrace" "Ljava/lang/Object;") ∈ lw_all := lw_g (lw_at lw_m1 64 rfl) rfl
theorem q196 : (Jvm.Cond.instanceMethod ({ cls := "WrongRoom$Refused", name := "<init>", desc := "()V" } : Jvm.MethodName)) ∈ lw_all := lw_g (lw_at lw_m1 86 rfl) rfl
theorem q197 : (Jvm.Cond.code ({ cls := "WrongRoom$Refused", name := "<init>", desc := "()V" } : Jvm.MethodName) prog_12_method_1_code (1 : Nat) (Option.none : Option Jvm.ClassFile.FieldType)) ∈ lw_all := lw_g (lw_at lw_m1 87 rfl) rfl
theorem q198 : (Jvm.Cond.methodLink "WrongRoom$Refused" (3 : Nat) ({ cls := "java/lang/RuntimeException", name := "<init>", desc := "(Ljava/lang/String;Ljava/lang/Throwable;ZZ)V" } : Jvm.MethodName)) ∈ lw_all := lw_g (lw_at lw_m1 88 rfl) rfl
theorem q207 : (Jvm.Cond.fieldLink "WrongRoom$Refused" (15 : Nat) "WrongRoom$Refused" "fault" "I") ∈ lw_all := lw_g (lw_at lw_m1 97 rfl) rfl
theorem q209 : (Jvm.Cond.fieldLink "WrongRoom$Refused" (9 : Nat) "WrongRoom$Refused" "place" "I") ∈ lw_all := lw_g (lw_at lw_m1 99 rfl) rfl
theorem q216 : (Jvm.Cond.lays "WrongRoom$Refused" "WrongRoom$Refused" "fault" "I") ∈ lw_all := lw_g (lw_at lw_m1 106 rfl) rfl
theorem q217 : (Jvm.Cond.soleField "WrongRoom$Refused" "fault") ∈ lw_all := lw_g (lw_at lw_m1 107 rfl) rfl
theorem q218 : (Jvm.Cond.lays "WrongRoom$Refused" "WrongRoom$Refused" "place" "I") ∈ lw_all := lw_g (lw_at lw_m1 108 rfl) rfl
theorem q219 : (Jvm.Cond.soleField "WrongRoom$Refused" "place") ∈ lw_all := lw_g (lw_at lw_m1 109 rfl) rfl
theorem q224 : (Jvm.Cond.lays "WrongRoom$Refused" "java/lang/Throwable" "depth" "I") ∈ lw_all := lw_g (lw_at lw_m1 114 rfl) rfl
theorem q227 : (Jvm.Cond.superclass "WrongRoom$Refused" "java/lang/RuntimeException") ∈ lw_all := lw_g (lw_at lw_m1 117 rfl) rfl
theorem q672 : (Jvm.Cond.instanceMethod ({ cls := "WrongRoom$Refused", name := "at", desc := "(II)LWrongRoom$Refused;" } : Jvm.MethodName)) ∈ lw_all := lw_g (lw_at lw_m3 82 rfl) rfl
theorem q673 : (Jvm.Cond.selects "WrongRoom$Refused" ({ cls := "WrongRoom$Refused", name := "at", desc := "(II)LWrongRoom$Refused;" } : Jvm.MethodName) ({ cls := "WrongRoom$Refused", name := "at", desc := "(II)LWrongRoom$Refused;" } : Jvm.MethodName)) ∈ lw_all := lw_g (lw_at lw_m3 83 rfl) rfl
theorem q674 : (Jvm.Cond.code ({ cls := "WrongRoom$Refused", name := "at", desc := "(II)LWrongRoom$Refused;" } : Jvm.MethodName) prog_12_method_2_code (3 : Nat) (Option.some (Jvm.ClassFile.FieldType.object "WrongRoom$Refused"))) ∈ lw_all := lw_g (lw_at lw_m3 84 rfl) rfl
theorem q2170 : (Jvm.Cond.castable "WrongRoom$Refused" "java/lang/Object") ∈ lw_tbl := lw_at lw_m9 140 rfl
theorem in_X3 : ∀ w ∈ wsX30, w ∈ lw_all := lw_in wsX30 [166, 168, 170, 172, 174, 224, 216, 218] (by decide +kernel) (by decide +kernel)
/-! WrongRoom$Rooms -/
set_option maxRecDepth 100000
def RX4 : String := "WrongRoom$Rooms"
def TX4 : u_T := fun k => match k with
  | 0 => ("WrongRoom$Rooms", "wrong", "[I", true)
  | 1 => ("WrongRoom$Rooms", "at", "[I", true)
  | 2 => ("WrongRoom$Rooms", "minutes", "[I", true)
  | 3 => ("WrongRoom$Rooms", "town", "LWrongRoom$Town;", false)
  | _ => ("WrongRoom$Rooms", "shut", "I", false)
def tyX4 : Nat → FieldType := fun k => match k with
  | 0 => .array .int
  | 1 => .array .int
  | 2 => .array .int
  | 3 => .object "WrongRoom$Town"
  | _ => .int
abbrev wsX40 : List Cond := u_ws RX4 TX4 5
theorem nmX4 : ∀ a, a < 5 → ∀ b, b < 5 → a ≠ b → (TX4 a).2.1 ≠ (TX4 b).2.1 := by decide +kernel
theorem tyX4_ok : ∀ k, k < 5 → parseFieldDescriptor (TX4 k).2.2.1 = some (tyX4 k) := by decide +kernel
abbrev cX4_init : ByteArray := prog_13_method_1_code
def yX4_init : MethodName := ⟨RX4, "<init>", "()V"⟩
def dkwX4_init_1 : List UInt8 := [181, 0, 18, 177]
abbrev dktX4_init_1 : List UInt8 := dkwX4_init_1 ++ []
def dkwX4_init_0 : List UInt8 := [42, 183, 0, 3, 42, 16, 7, 188, 10, 181, 0, 9, 42, 7, 188, 10, 181, 0, 15, 42, 7, 188, 10]
abbrev dktX4_init_0 : List UInt8 := dkwX4_init_0 ++ dktX4_init_1
theorem dksX4_init_0 : cX4_init.data.toList.drop 0 = dktX4_init_0 := by decide +kernel
theorem dksX4_init_1 : cX4_init.data.toList.drop 23 = dktX4_init_1 := dk_seg dksX4_init_0 23 rfl rfl
theorem dX4_init_0 : decode cX4_init 0 = .ok (.aload_n 0, 1) := dk_42 (dk_at dksX4_init_0 0 rfl rfl)
theorem dX4_init_1 : decode cX4_init 1 = .ok (.invokespecial 3, 3) := dk_183 0 3 (dk_at dksX4_init_0 1 rfl rfl)
theorem dX4_init_4 : decode cX4_init 4 = .ok (.aload_n 0, 1) := dk_42 (dk_at dksX4_init_0 4 rfl rfl)
theorem dX4_init_5 : decode cX4_init 5 = .ok (.bipush 7, 2) := dk_16 7 (dk_at dksX4_init_0 5 rfl rfl)
theorem dX4_init_7 : decode cX4_init 7 = .ok (.newarray .int, 2) := dk_188_10 (dk_at dksX4_init_0 7 rfl rfl)
theorem dX4_init_9 : decode cX4_init 9 = .ok (.putfield 9, 3) := dk_181 0 9 (dk_at dksX4_init_0 9 rfl rfl)
theorem dX4_init_12 : decode cX4_init 12 = .ok (.aload_n 0, 1) := dk_42 (dk_at dksX4_init_0 12 rfl rfl)
theorem dX4_init_13 : decode cX4_init 13 = .ok (.iconst 4, 1) := dk_7 (dk_at dksX4_init_0 13 rfl rfl)
theorem dX4_init_14 : decode cX4_init 14 = .ok (.newarray .int, 2) := dk_188_10 (dk_at dksX4_init_0 14 rfl rfl)
theorem dX4_init_16 : decode cX4_init 16 = .ok (.putfield 15, 3) := dk_181 0 15 (dk_at dksX4_init_0 16 rfl rfl)
theorem dX4_init_19 : decode cX4_init 19 = .ok (.aload_n 0, 1) := dk_42 (dk_at dksX4_init_0 19 rfl rfl)
theorem dX4_init_20 : decode cX4_init 20 = .ok (.iconst 4, 1) := dk_7 (dk_at dksX4_init_0 20 rfl rfl)
theorem dX4_init_21 : decode cX4_init 21 = .ok (.newarray .int, 2) := dk_188_10 (dk_at dksX4_init_0 21 rfl rfl)
theorem dX4_init_23 : decode cX4_init 23 = .ok (.putfield 18, 3) := dk_181 0 18 (dk_at dksX4_init_1 0 rfl rfl)
theorem dX4_init_26 : decode cX4_init 26 = .ok (.return_, 1) := dk_177 (dk_at dksX4_init_1 3 rfl rfl)
abbrev cX4_begin : ByteArray := prog_13_method_2_code
def yX4_begin : MethodName := ⟨RX4, "begin", "(LWrongRoom$Town;)V"⟩
def dkwX4_begin_3 : List UInt8 := [79, 132, 2, 1, 167, 255, 223, 177]
abbrev dktX4_begin_3 : List UInt8 := dkwX4_begin_3 ++ []
def dkwX4_begin_2 : List UInt8 := [162, 0, 31, 42, 180, 0, 15, 28, 43, 180, 0, 45, 28, 50, 180, 0, 49, 79, 42, 180, 0, 18, 28, 3]
abbrev dktX4_begin_2 : List UInt8 := dkwX4_begin_2 ++ dktX4_begin_3
def dkwX4_begin_1 : List UInt8 := [28, 43, 180, 0, 34, 28, 50, 180, 0, 38, 79, 132, 2, 1, 167, 255, 230, 3, 61, 28, 43, 180, 0, 42]
abbrev dktX4_begin_1 : List UInt8 := dkwX4_begin_1 ++ dktX4_begin_2
def dkwX4_begin_0 : List UInt8 := [42, 43, 181, 0, 21, 42, 3, 181, 0, 25, 3, 61, 28, 43, 180, 0, 29, 162, 0, 24, 42, 180, 0, 9]
abbrev dktX4_begin_0 : List UInt8 := dkwX4_begin_0 ++ dktX4_begin_1
theorem dksX4_begin_0 : cX4_begin.data.toList.drop 0 = dktX4_begin_0 := by decide +kernel
theorem dksX4_begin_1 : cX4_begin.data.toList.drop 24 = dktX4_begin_1 := dk_seg dksX4_begin_0 24 rfl rfl
theorem dksX4_begin_2 : cX4_begin.data.toList.drop 48 = dktX4_begin_2 := dk_seg dksX4_begin_1 24 rfl rfl
theorem dksX4_begin_3 : cX4_begin.data.toList.drop 72 = dktX4_begin_3 := dk_seg dksX4_begin_2 24 rfl rfl
theorem dX4_begin_0 : decode cX4_begin 0 = .ok (.aload_n 0, 1) := dk_42 (dk_at dksX4_begin_0 0 rfl rfl)
theorem dX4_begin_1 : decode cX4_begin 1 = .ok (.aload_n 1, 1) := dk_43 (dk_at dksX4_begin_0 1 rfl rfl)
theorem dX4_begin_2 : decode cX4_begin 2 = .ok (.putfield 21, 3) := dk_181 0 21 (dk_at dksX4_begin_0 2 rfl rfl)
theorem dX4_begin_5 : decode cX4_begin 5 = .ok (.aload_n 0, 1) := dk_42 (dk_at dksX4_begin_0 5 rfl rfl)
theorem dX4_begin_6 : decode cX4_begin 6 = .ok (.iconst 0, 1) := dk_3 (dk_at dksX4_begin_0 6 rfl rfl)
theorem dX4_begin_7 : decode cX4_begin 7 = .ok (.putfield 25, 3) := dk_181 0 25 (dk_at dksX4_begin_0 7 rfl rfl)
theorem dX4_begin_10 : decode cX4_begin 10 = .ok (.iconst 0, 1) := dk_3 (dk_at dksX4_begin_0 10 rfl rfl)
theorem dX4_begin_11 : decode cX4_begin 11 = .ok (.istore_n 2, 1) := dk_61 (dk_at dksX4_begin_0 11 rfl rfl)
theorem dX4_begin_12 : decode cX4_begin 12 = .ok (.iload_n 2, 1) := dk_28 (dk_at dksX4_begin_0 12 rfl rfl)
theorem dX4_begin_13 : decode cX4_begin 13 = .ok (.aload_n 1, 1) := dk_43 (dk_at dksX4_begin_0 13 rfl rfl)
theorem dX4_begin_14 : decode cX4_begin 14 = .ok (.getfield 29, 3) := dk_180 0 29 (dk_at dksX4_begin_0 14 rfl rfl)
theorem dX4_begin_17 : decode cX4_begin 17 = .ok (.if_icmp .ge 24, 3) := dk_162 0 24 (dk_at dksX4_begin_0 17 rfl rfl)
theorem dX4_begin_20 : decode cX4_begin 20 = .ok (.aload_n 0, 1) := dk_42 (dk_at dksX4_begin_0 20 rfl rfl)
theorem dX4_begin_21 : decode cX4_begin 21 = .ok (.getfield 9, 3) := dk_180 0 9 (dk_at dksX4_begin_0 21 rfl rfl)
theorem dX4_begin_24 : decode cX4_begin 24 = .ok (.iload_n 2, 1) := dk_28 (dk_at dksX4_begin_1 0 rfl rfl)
theorem dX4_begin_25 : decode cX4_begin 25 = .ok (.aload_n 1, 1) := dk_43 (dk_at dksX4_begin_1 1 rfl rfl)
theorem dX4_begin_26 : decode cX4_begin 26 = .ok (.getfield 34, 3) := dk_180 0 34 (dk_at dksX4_begin_1 2 rfl rfl)
theorem dX4_begin_29 : decode cX4_begin 29 = .ok (.iload_n 2, 1) := dk_28 (dk_at dksX4_begin_1 5 rfl rfl)
theorem dX4_begin_30 : decode cX4_begin 30 = .ok (.aaload, 1) := dk_50 (dk_at dksX4_begin_1 6 rfl rfl)
theorem dX4_begin_31 : decode cX4_begin 31 = .ok (.getfield 38, 3) := dk_180 0 38 (dk_at dksX4_begin_1 7 rfl rfl)
theorem dX4_begin_34 : decode cX4_begin 34 = .ok (.iastore, 1) := dk_79 (dk_at dksX4_begin_1 10 rfl rfl)
theorem dX4_begin_35 : decode cX4_begin 35 = .ok (.iinc 2 1, 3) := dk_132 2 1 (dk_at dksX4_begin_1 11 rfl rfl)
theorem dX4_begin_38 : decode cX4_begin 38 = .ok (.goto (-26), 3) := dk_167 255 230 (dk_at dksX4_begin_1 14 rfl rfl)
theorem dX4_begin_41 : decode cX4_begin 41 = .ok (.iconst 0, 1) := dk_3 (dk_at dksX4_begin_1 17 rfl rfl)
theorem dX4_begin_42 : decode cX4_begin 42 = .ok (.istore_n 2, 1) := dk_61 (dk_at dksX4_begin_1 18 rfl rfl)
theorem dX4_begin_43 : decode cX4_begin 43 = .ok (.iload_n 2, 1) := dk_28 (dk_at dksX4_begin_1 19 rfl rfl)
theorem dX4_begin_44 : decode cX4_begin 44 = .ok (.aload_n 1, 1) := dk_43 (dk_at dksX4_begin_1 20 rfl rfl)
theorem dX4_begin_45 : decode cX4_begin 45 = .ok (.getfield 42, 3) := dk_180 0 42 (dk_at dksX4_begin_1 21 rfl rfl)
theorem dX4_begin_48 : decode cX4_begin 48 = .ok (.if_icmp .ge 31, 3) := dk_162 0 31 (dk_at dksX4_begin_2 0 rfl rfl)
theorem dX4_begin_51 : decode cX4_begin 51 = .ok (.aload_n 0, 1) := dk_42 (dk_at dksX4_begin_2 3 rfl rfl)
theorem dX4_begin_52 : decode cX4_begin 52 = .ok (.getfield 15, 3) := dk_180 0 15 (dk_at dksX4_begin_2 4 rfl rfl)
theorem dX4_begin_55 : decode cX4_begin 55 = .ok (.iload_n 2, 1) := dk_28 (dk_at dksX4_begin_2 7 rfl rfl)
theorem dX4_begin_56 : decode cX4_begin 56 = .ok (.aload_n 1, 1) := dk_43 (dk_at dksX4_begin_2 8 rfl rfl)
theorem dX4_begin_57 : decode cX4_begin 57 = .ok (.getfield 45, 3) := dk_180 0 45 (dk_at dksX4_begin_2 9 rfl rfl)
theorem dX4_begin_60 : decode cX4_begin 60 = .ok (.iload_n 2, 1) := dk_28 (dk_at dksX4_begin_2 12 rfl rfl)
theorem dX4_begin_61 : decode cX4_begin 61 = .ok (.aaload, 1) := dk_50 (dk_at dksX4_begin_2 13 rfl rfl)
theorem dX4_begin_62 : decode cX4_begin 62 = .ok (.getfield 49, 3) := dk_180 0 49 (dk_at dksX4_begin_2 14 rfl rfl)
theorem dX4_begin_65 : decode cX4_begin 65 = .ok (.iastore, 1) := dk_79 (dk_at dksX4_begin_2 17 rfl rfl)
theorem dX4_begin_66 : decode cX4_begin 66 = .ok (.aload_n 0, 1) := dk_42 (dk_at dksX4_begin_2 18 rfl rfl)
theorem dX4_begin_67 : decode cX4_begin 67 = .ok (.getfield 18, 3) := dk_180 0 18 (dk_at dksX4_begin_2 19 rfl rfl)
theorem dX4_begin_70 : decode cX4_begin 70 = .ok (.iload_n 2, 1) := dk_28 (dk_at dksX4_begin_2 22 rfl rfl)
theorem dX4_begin_71 : decode cX4_begin 71 = .ok (.iconst 0, 1) := dk_3 (dk_at dksX4_begin_2 23 rfl rfl)
theorem dX4_begin_72 : decode cX4_begin 72 = .ok (.iastore, 1) := dk_79 (dk_at dksX4_begin_3 0 rfl rfl)
theorem dX4_begin_73 : decode cX4_begin 73 = .ok (.iinc 2 1, 3) := dk_132 2 1 (dk_at dksX4_begin_3 1 rfl rfl)
theorem dX4_begin_76 : decode cX4_begin 76 = .ok (.goto (-33), 3) := dk_167 255 223 (dk_at dksX4_begin_3 4 rfl rfl)
theorem dX4_begin_79 : decode cX4_begin 79 = .ok (.return_, 1) := dk_177 (dk_at dksX4_begin_3 7 rfl rfl)
abbrev cX4_lender : ByteArray := prog_13_method_5_code
def yX4_lender : MethodName := ⟨RX4, "lender", "(I)I"⟩
def dkwX4_lender_1 : List UInt8 := [172, 132, 2, 1, 167, 255, 230, 16, 254, 172]
abbrev dktX4_lender_1 : List UInt8 := dkwX4_lender_1 ++ []
def dkwX4_lender_0 : List UInt8 := [3, 61, 28, 42, 180, 0, 21, 180, 0, 29, 162, 0, 21, 42, 180, 0, 9, 28, 46, 27, 160, 0, 5, 28]
abbrev dktX4_lender_0 : List UInt8 := dkwX4_lender_0 ++ dktX4_lender_1
theorem dksX4_lender_0 : cX4_lender.data.toList.drop 0 = dktX4_lender_0 := by decide +kernel
theorem dksX4_lender_1 : cX4_lender.data.toList.drop 24 = dktX4_lender_1 := dk_seg dksX4_lender_0 24 rfl rfl
theorem dX4_lender_0 : decode cX4_lender 0 = .ok (.iconst 0, 1) := dk_3 (dk_at dksX4_lender_0 0 rfl rfl)
theorem dX4_lender_1 : decode cX4_lender 1 = .ok (.istore_n 2, 1) := dk_61 (dk_at dksX4_lender_0 1 rfl rfl)
theorem dX4_lender_2 : decode cX4_lender 2 = .ok (.iload_n 2, 1) := dk_28 (dk_at dksX4_lender_0 2 rfl rfl)
theorem dX4_lender_3 : decode cX4_lender 3 = .ok (.aload_n 0, 1) := dk_42 (dk_at dksX4_lender_0 3 rfl rfl)
theorem dX4_lender_4 : decode cX4_lender 4 = .ok (.getfield 21, 3) := dk_180 0 21 (dk_at dksX4_lender_0 4 rfl rfl)
theorem dX4_lender_7 : decode cX4_lender 7 = .ok (.getfield 29, 3) := dk_180 0 29 (dk_at dksX4_lender_0 7 rfl rfl)
theorem dX4_lender_10 : decode cX4_lender 10 = .ok (.if_icmp .ge 21, 3) := dk_162 0 21 (dk_at dksX4_lender_0 10 rfl rfl)
theorem dX4_lender_13 : decode cX4_lender 13 = .ok (.aload_n 0, 1) := dk_42 (dk_at dksX4_lender_0 13 rfl rfl)
theorem dX4_lender_14 : decode cX4_lender 14 = .ok (.getfield 9, 3) := dk_180 0 9 (dk_at dksX4_lender_0 14 rfl rfl)
theorem dX4_lender_17 : decode cX4_lender 17 = .ok (.iload_n 2, 1) := dk_28 (dk_at dksX4_lender_0 17 rfl rfl)
theorem dX4_lender_18 : decode cX4_lender 18 = .ok (.iaload, 1) := dk_46 (dk_at dksX4_lender_0 18 rfl rfl)
theorem dX4_lender_19 : decode cX4_lender 19 = .ok (.iload_n 1, 1) := dk_27 (dk_at dksX4_lender_0 19 rfl rfl)
theorem dX4_lender_20 : decode cX4_lender 20 = .ok (.if_icmp .ne 5, 3) := dk_160 0 5 (dk_at dksX4_lender_0 20 rfl rfl)
theorem dX4_lender_23 : decode cX4_lender 23 = .ok (.iload_n 2, 1) := dk_28 (dk_at dksX4_lender_0 23 rfl rfl)
theorem dX4_lender_24 : decode cX4_lender 24 = .ok (.ireturn, 1) := dk_172 (dk_at dksX4_lender_1 0 rfl rfl)
theorem dX4_lender_25 : decode cX4_lender 25 = .ok (.iinc 2 1, 3) := dk_132 2 1 (dk_at dksX4_lender_1 1 rfl rfl)
theorem dX4_lender_28 : decode cX4_lender 28 = .ok (.goto (-26), 3) := dk_167 255 230 (dk_at dksX4_lender_1 4 rfl rfl)
theorem dX4_lender_31 : decode cX4_lender 31 = .ok (.bipush (-2), 2) := dk_16 254 (dk_at dksX4_lender_1 7 rfl rfl)
theorem dX4_lender_33 : decode cX4_lender 33 = .ok (.ireturn, 1) := dk_172 (dk_at dksX4_lender_1 9 rfl rfl)
abbrev cX4_isOpen : ByteArray := prog_13_method_4_code
def yX4_isOpen : MethodName := ⟨RX4, "isOpen", "(II)Z"⟩
def dkwX4_isOpen_1 : List UInt8 := [180, 0, 21, 180, 0, 34, 27, 50, 28, 182, 0, 63, 153, 0, 7, 4, 167, 0, 4, 3, 172]
abbrev dktX4_isOpen_1 : List UInt8 := dkwX4_isOpen_1 ++ []
def dkwX4_isOpen_0 : List UInt8 := [42, 180, 0, 9, 27, 46, 16, 254, 159, 0, 34, 42, 180, 0, 25, 27, 184, 0, 59, 154, 0, 23, 42]
abbrev dktX4_isOpen_0 : List UInt8 := dkwX4_isOpen_0 ++ dktX4_isOpen_1
theorem dksX4_isOpen_0 : cX4_isOpen.data.toList.drop 0 = dktX4_isOpen_0 := by decide +kernel
theorem dksX4_isOpen_1 : cX4_isOpen.data.toList.drop 23 = dktX4_isOpen_1 := dk_seg dksX4_isOpen_0 23 rfl rfl
theorem dX4_isOpen_0 : decode cX4_isOpen 0 = .ok (.aload_n 0, 1) := dk_42 (dk_at dksX4_isOpen_0 0 rfl rfl)
theorem dX4_isOpen_1 : decode cX4_isOpen 1 = .ok (.getfield 9, 3) := dk_180 0 9 (dk_at dksX4_isOpen_0 1 rfl rfl)
theorem dX4_isOpen_4 : decode cX4_isOpen 4 = .ok (.iload_n 1, 1) := dk_27 (dk_at dksX4_isOpen_0 4 rfl rfl)
theorem dX4_isOpen_5 : decode cX4_isOpen 5 = .ok (.iaload, 1) := dk_46 (dk_at dksX4_isOpen_0 5 rfl rfl)
theorem dX4_isOpen_6 : decode cX4_isOpen 6 = .ok (.bipush (-2), 2) := dk_16 254 (dk_at dksX4_isOpen_0 6 rfl rfl)
theorem dX4_isOpen_8 : decode cX4_isOpen 8 = .ok (.if_icmp .eq 34, 3) := dk_159 0 34 (dk_at dksX4_isOpen_0 8 rfl rfl)
theorem dX4_isOpen_11 : decode cX4_isOpen 11 = .ok (.aload_n 0, 1) := dk_42 (dk_at dksX4_isOpen_0 11 rfl rfl)
theorem dX4_isOpen_12 : decode cX4_isOpen 12 = .ok (.getfield 25, 3) := dk_180 0 25 (dk_at dksX4_isOpen_0 12 rfl rfl)
theorem dX4_isOpen_15 : decode cX4_isOpen 15 = .ok (.iload_n 1, 1) := dk_27 (dk_at dksX4_isOpen_0 15 rfl rfl)
theorem dX4_isOpen_16 : decode cX4_isOpen 16 = .ok (.invokestatic 59, 3) := dk_184 0 59 (dk_at dksX4_isOpen_0 16 rfl rfl)
theorem dX4_isOpen_19 : decode cX4_isOpen 19 = .ok (.ifCond .ne 23, 3) := dk_154 0 23 (dk_at dksX4_isOpen_0 19 rfl rfl)
theorem dX4_isOpen_22 : decode cX4_isOpen 22 = .ok (.aload_n 0, 1) := dk_42 (dk_at dksX4_isOpen_0 22 rfl rfl)
theorem dX4_isOpen_23 : decode cX4_isOpen 23 = .ok (.getfield 21, 3) := dk_180 0 21 (dk_at dksX4_isOpen_1 0 rfl rfl)
theorem dX4_isOpen_26 : decode cX4_isOpen 26 = .ok (.getfield 34, 3) := dk_180 0 34 (dk_at dksX4_isOpen_1 3 rfl rfl)
theorem dX4_isOpen_29 : decode cX4_isOpen 29 = .ok (.iload_n 1, 1) := dk_27 (dk_at dksX4_isOpen_1 6 rfl rfl)
theorem dX4_isOpen_30 : decode cX4_isOpen 30 = .ok (.aaload, 1) := dk_50 (dk_at dksX4_isOpen_1 7 rfl rfl)
theorem dX4_isOpen_31 : decode cX4_isOpen 31 = .ok (.iload_n 2, 1) := dk_28 (dk_at dksX4_isOpen_1 8 rfl rfl)
theorem dX4_isOpen_32 : decode cX4_isOpen 32 = .ok (.invokevirtual 63, 3) := dk_182 0 63 (dk_at dksX4_isOpen_1 9 rfl rfl)
theorem dX4_isOpen_35 : decode cX4_isOpen 35 = .ok (.ifCond .eq 7, 3) := dk_153 0 7 (dk_at dksX4_isOpen_1 12 rfl rfl)
theorem dX4_isOpen_38 : decode cX4_isOpen 38 = .ok (.iconst 1, 1) := dk_4 (dk_at dksX4_isOpen_1 15 rfl rfl)
theorem dX4_isOpen_39 : decode cX4_isOpen 39 = .ok (.goto 4, 3) := dk_167 0 4 (dk_at dksX4_isOpen_1 16 rfl rfl)
theorem dX4_isOpen_42 : decode cX4_isOpen 42 = .ok (.iconst 0, 1) := dk_3 (dk_at dksX4_isOpen_1 19 rfl rfl)
theorem dX4_isOpen_43 : decode cX4_isOpen 43 = .ok (.ireturn, 1) := dk_172 (dk_at dksX4_isOpen_1 20 rfl rfl)
abbrev cX4_mutual : ByteArray := prog_13_method_7_code
def yX4_mutual : MethodName := ⟨RX4, "mutual", "()I"⟩
def dkwX4_mutual_1 : List UInt8 := [4, 28, 120, 167, 0, 4, 3, 128, 60, 132, 2, 1, 167, 255, 224, 27, 172]
abbrev dktX4_mutual_1 : List UInt8 := dkwX4_mutual_1 ++ []
def dkwX4_mutual_0 : List UInt8 := [3, 60, 3, 61, 28, 42, 180, 0, 21, 180, 0, 29, 162, 0, 27, 27, 42, 28, 182, 0, 67, 153, 0, 9]
abbrev dktX4_mutual_0 : List UInt8 := dkwX4_mutual_0 ++ dktX4_mutual_1
theorem dksX4_mutual_0 : cX4_mutual.data.toList.drop 0 = dktX4_mutual_0 := by decide +kernel
theorem dksX4_mutual_1 : cX4_mutual.data.toList.drop 24 = dktX4_mutual_1 := dk_seg dksX4_mutual_0 24 rfl rfl
theorem dX4_mutual_0 : decode cX4_mutual 0 = .ok (.iconst 0, 1) := dk_3 (dk_at dksX4_mutual_0 0 rfl rfl)
theorem dX4_mutual_1 : decode cX4_mutual 1 = .ok (.istore_n 1, 1) := dk_60 (dk_at dksX4_mutual_0 1 rfl rfl)
theorem dX4_mutual_2 : decode cX4_mutual 2 = .ok (.iconst 0, 1) := dk_3 (dk_at dksX4_mutual_0 2 rfl rfl)
theorem dX4_mutual_3 : decode cX4_mutual 3 = .ok (.istore_n 2, 1) := dk_61 (dk_at dksX4_mutual_0 3 rfl rfl)
theorem dX4_mutual_4 : decode cX4_mutual 4 = .ok (.iload_n 2, 1) := dk_28 (dk_at dksX4_mutual_0 4 rfl rfl)
theorem dX4_mutual_5 : decode cX4_mutual 5 = .ok (.aload_n 0, 1) := dk_42 (dk_at dksX4_mutual_0 5 rfl rfl)
theorem dX4_mutual_6 : decode cX4_mutual 6 = .ok (.getfield 21, 3) := dk_180 0 21 (dk_at dksX4_mutual_0 6 rfl rfl)
theorem dX4_mutual_9 : decode cX4_mutual 9 = .ok (.getfield 29, 3) := dk_180 0 29 (dk_at dksX4_mutual_0 9 rfl rfl)
theorem dX4_mutual_12 : decode cX4_mutual 12 = .ok (.if_icmp .ge 27, 3) := dk_162 0 27 (dk_at dksX4_mutual_0 12 rfl rfl)
theorem dX4_mutual_15 : decode cX4_mutual 15 = .ok (.iload_n 1, 1) := dk_27 (dk_at dksX4_mutual_0 15 rfl rfl)
theorem dX4_mutual_16 : decode cX4_mutual 16 = .ok (.aload_n 0, 1) := dk_42 (dk_at dksX4_mutual_0 16 rfl rfl)
theorem dX4_mutual_17 : decode cX4_mutual 17 = .ok (.iload_n 2, 1) := dk_28 (dk_at dksX4_mutual_0 17 rfl rfl)
theorem dX4_mutual_18 : decode cX4_mutual 18 = .ok (.invokevirtual 67, 3) := dk_182 0 67 (dk_at dksX4_mutual_0 18 rfl rfl)
theorem dX4_mutual_21 : decode cX4_mutual 21 = .ok (.ifCond .eq 9, 3) := dk_153 0 9 (dk_at dksX4_mutual_0 21 rfl rfl)
theorem dX4_mutual_24 : decode cX4_mutual 24 = .ok (.iconst 1, 1) := dk_4 (dk_at dksX4_mutual_1 0 rfl rfl)
theorem dX4_mutual_25 : decode cX4_mutual 25 = .ok (.iload_n 2, 1) := dk_28 (dk_at dksX4_mutual_1 1 rfl rfl)
theorem dX4_mutual_26 : decode cX4_mutual 26 = .ok (.ishl, 1) := dk_120 (dk_at dksX4_mutual_1 2 rfl rfl)
theorem dX4_mutual_27 : decode cX4_mutual 27 = .ok (.goto 4, 3) := dk_167 0 4 (dk_at dksX4_mutual_1 3 rfl rfl)
theorem dX4_mutual_30 : decode cX4_mutual 30 = .ok (.iconst 0, 1) := dk_3 (dk_at dksX4_mutual_1 6 rfl rfl)
theorem dX4_mutual_31 : decode cX4_mutual 31 = .ok (.ior, 1) := dk_128 (dk_at dksX4_mutual_1 7 rfl rfl)
theorem dX4_mutual_32 : decode cX4_mutual 32 = .ok (.istore_n 1, 1) := dk_60 (dk_at dksX4_mutual_1 8 rfl rfl)
theorem dX4_mutual_33 : decode cX4_mutual 33 = .ok (.iinc 2 1, 3) := dk_132 2 1 (dk_at dksX4_mutual_1 9 rfl rfl)
theorem dX4_mutual_36 : decode cX4_mutual 36 = .ok (.goto (-32), 3) := dk_167 255 224 (dk_at dksX4_mutual_1 12 rfl rfl)
theorem dX4_mutual_39 : decode cX4_mutual 39 = .ok (.iload_n 1, 1) := dk_27 (dk_at dksX4_mutual_1 15 rfl rfl)
theorem dX4_mutual_40 : decode cX4_mutual 40 = .ok (.ireturn, 1) := dk_172 (dk_at dksX4_mutual_1 16 rfl rfl)
abbrev cX4_isMutual : ByteArray := prog_13_method_6_code
def yX4_isMutual : MethodName := ⟨RX4, "isMutual", "(I)Z"⟩
def dkwX4_isMutual_1 : List UInt8 := [160, 0, 7, 4, 167, 0, 4, 3, 172]
abbrev dktX4_isMutual_1 : List UInt8 := dkwX4_isMutual_1 ++ []
def dkwX4_isMutual_0 : List UInt8 := [42, 180, 0, 9, 27, 46, 16, 254, 159, 0, 22, 42, 180, 0, 9, 42, 180, 0, 9, 27, 46, 46, 27]
abbrev dktX4_isMutual_0 : List UInt8 := dkwX4_isMutual_0 ++ dktX4_isMutual_1
theorem dksX4_isMutual_0 : cX4_isMutual.data.toList.drop 0 = dktX4_isMutual_0 := by decide +kernel
theorem dksX4_isMutual_1 : cX4_isMutual.data.toList.drop 23 = dktX4_isMutual_1 := dk_seg dksX4_isMutual_0 23 rfl rfl
theorem dX4_isMutual_0 : decode cX4_isMutual 0 = .ok (.aload_n 0, 1) := dk_42 (dk_at dksX4_isMutual_0 0 rfl rfl)
theorem dX4_isMutual_1 : decode cX4_isMutual 1 = .ok (.getfield 9, 3) := dk_180 0 9 (dk_at dksX4_isMutual_0 1 rfl rfl)
theorem dX4_isMutual_4 : decode cX4_isMutual 4 = .ok (.iload_n 1, 1) := dk_27 (dk_at dksX4_isMutual_0 4 rfl rfl)
theorem dX4_isMutual_5 : decode cX4_isMutual 5 = .ok (.iaload, 1) := dk_46 (dk_at dksX4_isMutual_0 5 rfl rfl)
theorem dX4_isMutual_6 : decode cX4_isMutual 6 = .ok (.bipush (-2), 2) := dk_16 254 (dk_at dksX4_isMutual_0 6 rfl rfl)
theorem dX4_isMutual_8 : decode cX4_isMutual 8 = .ok (.if_icmp .eq 22, 3) := dk_159 0 22 (dk_at dksX4_isMutual_0 8 rfl rfl)
theorem dX4_isMutual_11 : decode cX4_isMutual 11 = .ok (.aload_n 0, 1) := dk_42 (dk_at dksX4_isMutual_0 11 rfl rfl)
theorem dX4_isMutual_12 : decode cX4_isMutual 12 = .ok (.getfield 9, 3) := dk_180 0 9 (dk_at dksX4_isMutual_0 12 rfl rfl)
theorem dX4_isMutual_15 : decode cX4_isMutual 15 = .ok (.aload_n 0, 1) := dk_42 (dk_at dksX4_isMutual_0 15 rfl rfl)
theorem dX4_isMutual_16 : decode cX4_isMutual 16 = .ok (.getfield 9, 3) := dk_180 0 9 (dk_at dksX4_isMutual_0 16 rfl rfl)
theorem dX4_isMutual_19 : decode cX4_isMutual 19 = .ok (.iload_n 1, 1) := dk_27 (dk_at dksX4_isMutual_0 19 rfl rfl)
theorem dX4_isMutual_20 : decode cX4_isMutual 20 = .ok (.iaload, 1) := dk_46 (dk_at dksX4_isMutual_0 20 rfl rfl)
theorem dX4_isMutual_21 : decode cX4_isMutual 21 = .ok (.iaload, 1) := dk_46 (dk_at dksX4_isMutual_0 21 rfl rfl)
theorem dX4_isMutual_22 : decode cX4_isMutual 22 = .ok (.iload_n 1, 1) := dk_27 (dk_at dksX4_isMutual_0 22 rfl rfl)
theorem dX4_isMutual_23 : decode cX4_isMutual 23 = .ok (.if_icmp .ne 7, 3) := dk_160 0 7 (dk_at dksX4_isMutual_1 0 rfl rfl)
theorem dX4_isMutual_26 : decode cX4_isMutual 26 = .ok (.iconst 1, 1) := dk_4 (dk_at dksX4_isMutual_1 3 rfl rfl)
theorem dX4_isMutual_27 : decode cX4_isMutual 27 = .ok (.goto 4, 3) := dk_167 0 4 (dk_at dksX4_isMutual_1 4 rfl rfl)
theorem dX4_isMutual_30 : decode cX4_isMutual 30 = .ok (.iconst 0, 1) := dk_3 (dk_at dksX4_isMutual_1 7 rfl rfl)
theorem dX4_isMutual_31 : decode cX4_isMutual 31 = .ok (.ireturn, 1) := dk_172 (dk_at dksX4_isMutual_1 8 rfl rfl)
abbrev cX4_opens : ByteArray := prog_13_method_11_code
def yX4_opens : MethodName := ⟨RX4, "opens", "(II)I"⟩
def dkwX4_opens_2 : List UInt8 := [108, 4, 96, 104, 62, 167, 255, 230, 29, 172]
abbrev dktX4_opens_2 : List UInt8 := dkwX4_opens_2 ++ []
def dkwX4_opens_1 : List UInt8 := [172, 28, 62, 42, 180, 0, 21, 180, 0, 34, 27, 50, 29, 182, 0, 63, 154, 0, 16, 16, 60, 29, 16, 60]
abbrev dktX4_opens_1 : List UInt8 := dkwX4_opens_1 ++ dktX4_opens_2
def dkwX4_opens_0 : List UInt8 := [42, 180, 0, 9, 27, 46, 16, 254, 159, 0, 14, 42, 180, 0, 25, 27, 184, 0, 59, 153, 0, 6, 18, 74]
abbrev dktX4_opens_0 : List UInt8 := dkwX4_opens_0 ++ dktX4_opens_1
theorem dksX4_opens_0 : cX4_opens.data.toList.drop 0 = dktX4_opens_0 := by decide +kernel
theorem dksX4_opens_1 : cX4_opens.data.toList.drop 24 = dktX4_opens_1 := dk_seg dksX4_opens_0 24 rfl rfl
theorem dksX4_opens_2 : cX4_opens.data.toList.drop 48 = dktX4_opens_2 := dk_seg dksX4_opens_1 24 rfl rfl
theorem dX4_opens_0 : decode cX4_opens 0 = .ok (.aload_n 0, 1) := dk_42 (dk_at dksX4_opens_0 0 rfl rfl)
theorem dX4_opens_1 : decode cX4_opens 1 = .ok (.getfield 9, 3) := dk_180 0 9 (dk_at dksX4_opens_0 1 rfl rfl)
theorem dX4_opens_4 : decode cX4_opens 4 = .ok (.iload_n 1, 1) := dk_27 (dk_at dksX4_opens_0 4 rfl rfl)
theorem dX4_opens_5 : decode cX4_opens 5 = .ok (.iaload, 1) := dk_46 (dk_at dksX4_opens_0 5 rfl rfl)
theorem dX4_opens_6 : decode cX4_opens 6 = .ok (.bipush (-2), 2) := dk_16 254 (dk_at dksX4_opens_0 6 rfl rfl)
theorem dX4_opens_8 : decode cX4_opens 8 = .ok (.if_icmp .eq 14, 3) := dk_159 0 14 (dk_at dksX4_opens_0 8 rfl rfl)
theorem dX4_opens_11 : decode cX4_opens 11 = .ok (.aload_n 0, 1) := dk_42 (dk_at dksX4_opens_0 11 rfl rfl)
theorem dX4_opens_12 : decode cX4_opens 12 = .ok (.getfield 25, 3) := dk_180 0 25 (dk_at dksX4_opens_0 12 rfl rfl)
theorem dX4_opens_15 : decode cX4_opens 15 = .ok (.iload_n 1, 1) := dk_27 (dk_at dksX4_opens_0 15 rfl rfl)
theorem dX4_opens_16 : decode cX4_opens 16 = .ok (.invokestatic 59, 3) := dk_184 0 59 (dk_at dksX4_opens_0 16 rfl rfl)
theorem dX4_opens_19 : decode cX4_opens 19 = .ok (.ifCond .eq 6, 3) := dk_153 0 6 (dk_at dksX4_opens_0 19 rfl rfl)
theorem dX4_opens_22 : decode cX4_opens 22 = .ok (.ldc 74, 2) := dk_18 74 (dk_at dksX4_opens_0 22 rfl rfl)
theorem dX4_opens_24 : decode cX4_opens 24 = .ok (.ireturn, 1) := dk_172 (dk_at dksX4_opens_1 0 rfl rfl)
theorem dX4_opens_25 : decode cX4_opens 25 = .ok (.iload_n 2, 1) := dk_28 (dk_at dksX4_opens_1 1 rfl rfl)
theorem dX4_opens_26 : decode cX4_opens 26 = .ok (.istore_n 3, 1) := dk_62 (dk_at dksX4_opens_1 2 rfl rfl)
theorem dX4_opens_27 : decode cX4_opens 27 = .ok (.aload_n 0, 1) := dk_42 (dk_at dksX4_opens_1 3 rfl rfl)
theorem dX4_opens_28 : decode cX4_opens 28 = .ok (.getfield 21, 3) := dk_180 0 21 (dk_at dksX4_opens_1 4 rfl rfl)
theorem dX4_opens_31 : decode cX4_opens 31 = .ok (.getfield 34, 3) := dk_180 0 34 (dk_at dksX4_opens_1 7 rfl rfl)
theorem dX4_opens_34 : decode cX4_opens 34 = .ok (.iload_n 1, 1) := dk_27 (dk_at dksX4_opens_1 10 rfl rfl)
theorem dX4_opens_35 : decode cX4_opens 35 = .ok (.aaload, 1) := dk_50 (dk_at dksX4_opens_1 11 rfl rfl)
theorem dX4_opens_36 : decode cX4_opens 36 = .ok (.iload_n 3, 1) := dk_29 (dk_at dksX4_opens_1 12 rfl rfl)
theorem dX4_opens_37 : decode cX4_opens 37 = .ok (.invokevirtual 63, 3) := dk_182 0 63 (dk_at dksX4_opens_1 13 rfl rfl)
theorem dX4_opens_40 : decode cX4_opens 40 = .ok (.ifCond .ne 16, 3) := dk_154 0 16 (dk_at dksX4_opens_1 16 rfl rfl)
theorem dX4_opens_43 : decode cX4_opens 43 = .ok (.bipush 60, 2) := dk_16 60 (dk_at dksX4_opens_1 19 rfl rfl)
theorem dX4_opens_45 : decode cX4_opens 45 = .ok (.iload_n 3, 1) := dk_29 (dk_at dksX4_opens_1 21 rfl rfl)
theorem dX4_opens_46 : decode cX4_opens 46 = .ok (.bipush 60, 2) := dk_16 60 (dk_at dksX4_opens_1 22 rfl rfl)
theorem dX4_opens_48 : decode cX4_opens 48 = .ok (.idiv, 1) := dk_108 (dk_at dksX4_opens_2 0 rfl rfl)
theorem dX4_opens_49 : decode cX4_opens 49 = .ok (.iconst 1, 1) := dk_4 (dk_at dksX4_opens_2 1 rfl rfl)
theorem dX4_opens_50 : decode cX4_opens 50 = .ok (.iadd, 1) := dk_96 (dk_at dksX4_opens_2 2 rfl rfl)
theorem dX4_opens_51 : decode cX4_opens 51 = .ok (.imul, 1) := dk_104 (dk_at dksX4_opens_2 3 rfl rfl)
theorem dX4_opens_52 : decode cX4_opens 52 = .ok (.istore_n 3, 1) := dk_62 (dk_at dksX4_opens_2 4 rfl rfl)
theorem dX4_opens_53 : decode cX4_opens 53 = .ok (.goto (-26), 3) := dk_167 255 230 (dk_at dksX4_opens_2 5 rfl rfl)
theorem dX4_opens_56 : decode cX4_opens 56 = .ok (.iload_n 3, 1) := dk_29 (dk_at dksX4_opens_2 8 rfl rfl)
theorem dX4_opens_57 : decode cX4_opens 57 = .ok (.ireturn, 1) := dk_172 (dk_at dksX4_opens_2 9 rfl rfl)
abbrev cX4_become : ByteArray := prog_13_method_3_code
def yX4_become : MethodName := ⟨RX4, "become", "(LWrongRoom$Rooms;)V"⟩
def dkwX4_become_2 : List UInt8 := [180, 0, 18, 3, 42, 180, 0, 18, 3, 7, 184, 0, 53, 177]
abbrev dktX4_become_2 : List UInt8 := dkwX4_become_2 ++ []
def dkwX4_become_1 : List UInt8 := [180, 0, 9, 3, 16, 7, 184, 0, 53, 43, 180, 0, 15, 3, 42, 180, 0, 15, 3, 7, 184, 0, 53, 43]
abbrev dktX4_become_1 : List UInt8 := dkwX4_become_1 ++ dktX4_become_2
def dkwX4_become_0 : List UInt8 := [42, 43, 180, 0, 21, 181, 0, 21, 42, 43, 180, 0, 25, 181, 0, 25, 43, 180, 0, 9, 3, 42]
abbrev dktX4_become_0 : List UInt8 := dkwX4_become_0 ++ dktX4_become_1
theorem dksX4_become_0 : cX4_become.data.toList.drop 0 = dktX4_become_0 := by decide +kernel
theorem dksX4_become_1 : cX4_become.data.toList.drop 22 = dktX4_become_1 := dk_seg dksX4_become_0 22 rfl rfl
theorem dksX4_become_2 : cX4_become.data.toList.drop 46 = dktX4_become_2 := dk_seg dksX4_become_1 24 rfl rfl
theorem dX4_become_0 : decode cX4_become 0 = .ok (.aload_n 0, 1) := dk_42 (dk_at dksX4_become_0 0 rfl rfl)
theorem dX4_become_1 : decode cX4_become 1 = .ok (.aload_n 1, 1) := dk_43 (dk_at dksX4_become_0 1 rfl rfl)
theorem dX4_become_2 : decode cX4_become 2 = .ok (.getfield 21, 3) := dk_180 0 21 (dk_at dksX4_become_0 2 rfl rfl)
theorem dX4_become_5 : decode cX4_become 5 = .ok (.putfield 21, 3) := dk_181 0 21 (dk_at dksX4_become_0 5 rfl rfl)
theorem dX4_become_8 : decode cX4_become 8 = .ok (.aload_n 0, 1) := dk_42 (dk_at dksX4_become_0 8 rfl rfl)
theorem dX4_become_9 : decode cX4_become 9 = .ok (.aload_n 1, 1) := dk_43 (dk_at dksX4_become_0 9 rfl rfl)
theorem dX4_become_10 : decode cX4_become 10 = .ok (.getfield 25, 3) := dk_180 0 25 (dk_at dksX4_become_0 10 rfl rfl)
theorem dX4_become_13 : decode cX4_become 13 = .ok (.putfield 25, 3) := dk_181 0 25 (dk_at dksX4_become_0 13 rfl rfl)
theorem dX4_become_16 : decode cX4_become 16 = .ok (.aload_n 1, 1) := dk_43 (dk_at dksX4_become_0 16 rfl rfl)
theorem dX4_become_17 : decode cX4_become 17 = .ok (.getfield 9, 3) := dk_180 0 9 (dk_at dksX4_become_0 17 rfl rfl)
theorem dX4_become_20 : decode cX4_become 20 = .ok (.iconst 0, 1) := dk_3 (dk_at dksX4_become_0 20 rfl rfl)
theorem dX4_become_21 : decode cX4_become 21 = .ok (.aload_n 0, 1) := dk_42 (dk_at dksX4_become_0 21 rfl rfl)
theorem dX4_become_22 : decode cX4_become 22 = .ok (.getfield 9, 3) := dk_180 0 9 (dk_at dksX4_become_1 0 rfl rfl)
theorem dX4_become_25 : decode cX4_become 25 = .ok (.iconst 0, 1) := dk_3 (dk_at dksX4_become_1 3 rfl rfl)
theorem dX4_become_26 : decode cX4_become 26 = .ok (.bipush 7, 2) := dk_16 7 (dk_at dksX4_become_1 4 rfl rfl)
theorem dX4_become_28 : decode cX4_become 28 = .ok (.invokestatic 53, 3) := dk_184 0 53 (dk_at dksX4_become_1 6 rfl rfl)
theorem dX4_become_31 : decode cX4_become 31 = .ok (.aload_n 1, 1) := dk_43 (dk_at dksX4_become_1 9 rfl rfl)
theorem dX4_become_32 : decode cX4_become 32 = .ok (.getfield 15, 3) := dk_180 0 15 (dk_at dksX4_become_1 10 rfl rfl)
theorem dX4_become_35 : decode cX4_become 35 = .ok (.iconst 0, 1) := dk_3 (dk_at dksX4_become_1 13 rfl rfl)
theorem dX4_become_36 : decode cX4_become 36 = .ok (.aload_n 0, 1) := dk_42 (dk_at dksX4_become_1 14 rfl rfl)
theorem dX4_become_37 : decode cX4_become 37 = .ok (.getfield 15, 3) := dk_180 0 15 (dk_at dksX4_become_1 15 rfl rfl)
theorem dX4_become_40 : decode cX4_become 40 = .ok (.iconst 0, 1) := dk_3 (dk_at dksX4_become_1 18 rfl rfl)
theorem dX4_become_41 : decode cX4_become 41 = .ok (.iconst 4, 1) := dk_7 (dk_at dksX4_become_1 19 rfl rfl)
theorem dX4_become_42 : decode cX4_become 42 = .ok (.invokestatic 53, 3) := dk_184 0 53 (dk_at dksX4_become_1 20 rfl rfl)
theorem dX4_become_45 : decode cX4_become 45 = .ok (.aload_n 1, 1) := dk_43 (dk_at dksX4_become_1 23 rfl rfl)
theorem dX4_become_46 : decode cX4_become 46 = .ok (.getfield 18, 3) := dk_180 0 18 (dk_at dksX4_become_2 0 rfl rfl)
theorem dX4_become_49 : decode cX4_become 49 = .ok (.iconst 0, 1) := dk_3 (dk_at dksX4_become_2 3 rfl rfl)
theorem dX4_become_50 : decode cX4_become 50 = .ok (.aload_n 0, 1) := dk_42 (dk_at dksX4_become_2 4 rfl rfl)
theorem dX4_become_51 : decode cX4_become 51 = .ok (.getfield 18, 3) := dk_180 0 18 (dk_at dksX4_become_2 5 rfl rfl)
theorem dX4_become_54 : decode cX4_become 54 = .ok (.iconst 0, 1) := dk_3 (dk_at dksX4_become_2 8 rfl rfl)
theorem dX4_become_55 : decode cX4_become 55 = .ok (.iconst 4, 1) := dk_7 (dk_at dksX4_become_2 9 rfl rfl)
theorem dX4_become_56 : decode cX4_become 56 = .ok (.invokestatic 53, 3) := dk_184 0 53 (dk_at dksX4_become_2 10 rfl rfl)
theorem dX4_become_59 : decode cX4_become 59 = .ok (.return_, 1) := dk_177 (dk_at dksX4_become_2 13 rfl rfl)
abbrev cX4_canExchange : ByteArray := prog_13_method_8_code
def yX4_canExchange : MethodName := ⟨RX4, "canExchange", "(II)Z"⟩
def dkwX4_canExchange_2 : List UInt8 := [167, 0, 4, 3, 172]
abbrev dktX4_canExchange_2 : List UInt8 := dkwX4_canExchange_2 ++ []
def dkwX4_canExchange_1 : List UInt8 := [159, 0, 27, 42, 180, 0, 9, 27, 46, 28, 159, 0, 17, 42, 180, 0, 9, 28, 46, 27, 159, 0, 7, 4]
abbrev dktX4_canExchange_1 : List UInt8 := dkwX4_canExchange_1 ++ dktX4_canExchange_2
def dkwX4_canExchange_0 : List UInt8 := [27, 28, 159, 0, 49, 42, 180, 0, 9, 27, 46, 16, 254, 159, 0, 38, 42, 180, 0, 9, 28, 46, 16, 254]
abbrev dktX4_canExchange_0 : List UInt8 := dkwX4_canExchange_0 ++ dktX4_canExchange_1
theorem dksX4_canExchange_0 : cX4_canExchange.data.toList.drop 0 = dktX4_canExchange_0 := by decide +kernel
theorem dksX4_canExchange_1 : cX4_canExchange.data.toList.drop 24 = dktX4_canExchange_1 := dk_seg dksX4_canExchange_0 24 rfl rfl
theorem dksX4_canExchange_2 : cX4_canExchange.data.toList.drop 48 = dktX4_canExchange_2 := dk_seg dksX4_canExchange_1 24 rfl rfl
theorem dX4_canExchange_0 : decode cX4_canExchange 0 = .ok (.iload_n 1, 1) := dk_27 (dk_at dksX4_canExchange_0 0 rfl rfl)
theorem dX4_canExchange_1 : decode cX4_canExchange 1 = .ok (.iload_n 2, 1) := dk_28 (dk_at dksX4_canExchange_0 1 rfl rfl)
theorem dX4_canExchange_2 : decode cX4_canExchange 2 = .ok (.if_icmp .eq 49, 3) := dk_159 0 49 (dk_at dksX4_canExchange_0 2 rfl rfl)
theorem dX4_canExchange_5 : decode cX4_canExchange 5 = .ok (.aload_n 0, 1) := dk_42 (dk_at dksX4_canExchange_0 5 rfl rfl)
theorem dX4_canExchange_6 : decode cX4_canExchange 6 = .ok (.getfield 9, 3) := dk_180 0 9 (dk_at dksX4_canExchange_0 6 rfl rfl)
theorem dX4_canExchange_9 : decode cX4_canExchange 9 = .ok (.iload_n 1, 1) := dk_27 (dk_at dksX4_canExchange_0 9 rfl rfl)
theorem dX4_canExchange_10 : decode cX4_canExchange 10 = .ok (.iaload, 1) := dk_46 (dk_at dksX4_canExchange_0 10 rfl rfl)
theorem dX4_canExchange_11 : decode cX4_canExchange 11 = .ok (.bipush (-2), 2) := dk_16 254 (dk_at dksX4_canExchange_0 11 rfl rfl)
theorem dX4_canExchange_13 : decode cX4_canExchange 13 = .ok (.if_icmp .eq 38, 3) := dk_159 0 38 (dk_at dksX4_canExchange_0 13 rfl rfl)
theorem dX4_canExchange_16 : decode cX4_canExchange 16 = .ok (.aload_n 0, 1) := dk_42 (dk_at dksX4_canExchange_0 16 rfl rfl)
theorem dX4_canExchange_17 : decode cX4_canExchange 17 = .ok (.getfield 9, 3) := dk_180 0 9 (dk_at dksX4_canExchange_0 17 rfl rfl)
theorem dX4_canExchange_20 : decode cX4_canExchange 20 = .ok (.iload_n 2, 1) := dk_28 (dk_at dksX4_canExchange_0 20 rfl rfl)
theorem dX4_canExchange_21 : decode cX4_canExchange 21 = .ok (.iaload, 1) := dk_46 (dk_at dksX4_canExchange_0 21 rfl rfl)
theorem dX4_canExchange_22 : decode cX4_canExchange 22 = .ok (.bipush (-2), 2) := dk_16 254 (dk_at dksX4_canExchange_0 22 rfl rfl)
theorem dX4_canExchange_24 : decode cX4_canExchange 24 = .ok (.if_icmp .eq 27, 3) := dk_159 0 27 (dk_at dksX4_canExchange_1 0 rfl rfl)
theorem dX4_canExchange_27 : decode cX4_canExchange 27 = .ok (.aload_n 0, 1) := dk_42 (dk_at dksX4_canExchange_1 3 rfl rfl)
theorem dX4_canExchange_28 : decode cX4_canExchange 28 = .ok (.getfield 9, 3) := dk_180 0 9 (dk_at dksX4_canExchange_1 4 rfl rfl)
theorem dX4_canExchange_31 : decode cX4_canExchange 31 = .ok (.iload_n 1, 1) := dk_27 (dk_at dksX4_canExchange_1 7 rfl rfl)
theorem dX4_canExchange_32 : decode cX4_canExchange 32 = .ok (.iaload, 1) := dk_46 (dk_at dksX4_canExchange_1 8 rfl rfl)
theorem dX4_canExchange_33 : decode cX4_canExchange 33 = .ok (.iload_n 2, 1) := dk_28 (dk_at dksX4_canExchange_1 9 rfl rfl)
theorem dX4_canExchange_34 : decode cX4_canExchange 34 = .ok (.if_icmp .eq 17, 3) := dk_159 0 17 (dk_at dksX4_canExchange_1 10 rfl rfl)
theorem dX4_canExchange_37 : decode cX4_canExchange 37 = .ok (.aload_n 0, 1) := dk_42 (dk_at dksX4_canExchange_1 13 rfl rfl)
theorem dX4_canExchange_38 : decode cX4_canExchange 38 = .ok (.getfield 9, 3) := dk_180 0 9 (dk_at dksX4_canExchange_1 14 rfl rfl)
theorem dX4_canExchange_41 : decode cX4_canExchange 41 = .ok (.iload_n 2, 1) := dk_28 (dk_at dksX4_canExchange_1 17 rfl rfl)
theorem dX4_canExchange_42 : decode cX4_canExchange 42 = .ok (.iaload, 1) := dk_46 (dk_at dksX4_canExchange_1 18 rfl rfl)
theorem dX4_canExchange_43 : decode cX4_canExchange 43 = .ok (.iload_n 1, 1) := dk_27 (dk_at dksX4_canExchange_1 19 rfl rfl)
theorem dX4_canExchange_44 : decode cX4_canExchange 44 = .ok (.if_icmp .eq 7, 3) := dk_159 0 7 (dk_at dksX4_canExchange_1 20 rfl rfl)
theorem dX4_canExchange_47 : decode cX4_canExchange 47 = .ok (.iconst 1, 1) := dk_4 (dk_at dksX4_canExchange_1 23 rfl rfl)
theorem dX4_canExchange_48 : decode cX4_canExchange 48 = .ok (.goto 4, 3) := dk_167 0 4 (dk_at dksX4_canExchange_2 0 rfl rfl)
theorem dX4_canExchange_51 : decode cX4_canExchange 51 = .ok (.iconst 0, 1) := dk_3 (dk_at dksX4_canExchange_2 3 rfl rfl)
theorem dX4_canExchange_52 : decode cX4_canExchange 52 = .ok (.ireturn, 1) := dk_172 (dk_at dksX4_canExchange_2 4 rfl rfl)
abbrev cX4_exchange : ByteArray := prog_13_method_9_code
def yX4_exchange : MethodName := ⟨RX4, "exchange", "(II)V"⟩
def dkwX4_exchange_1 : List UInt8 := [29, 79, 177]
abbrev dktX4_exchange_1 : List UInt8 := dkwX4_exchange_1 ++ []
def dkwX4_exchange_0 : List UInt8 := [42, 180, 0, 9, 27, 46, 62, 42, 180, 0, 9, 27, 42, 180, 0, 9, 28, 46, 79, 42, 180, 0, 9, 28]
abbrev dktX4_exchange_0 : List UInt8 := dkwX4_exchange_0 ++ dktX4_exchange_1
theorem dksX4_exchange_0 : cX4_exchange.data.toList.drop 0 = dktX4_exchange_0 := by decide +kernel
theorem dksX4_exchange_1 : cX4_exchange.data.toList.drop 24 = dktX4_exchange_1 := dk_seg dksX4_exchange_0 24 rfl rfl
theorem dX4_exchange_0 : decode cX4_exchange 0 = .ok (.aload_n 0, 1) := dk_42 (dk_at dksX4_exchange_0 0 rfl rfl)
theorem dX4_exchange_1 : decode cX4_exchange 1 = .ok (.getfield 9, 3) := dk_180 0 9 (dk_at dksX4_exchange_0 1 rfl rfl)
theorem dX4_exchange_4 : decode cX4_exchange 4 = .ok (.iload_n 1, 1) := dk_27 (dk_at dksX4_exchange_0 4 rfl rfl)
theorem dX4_exchange_5 : decode cX4_exchange 5 = .ok (.iaload, 1) := dk_46 (dk_at dksX4_exchange_0 5 rfl rfl)
theorem dX4_exchange_6 : decode cX4_exchange 6 = .ok (.istore_n 3, 1) := dk_62 (dk_at dksX4_exchange_0 6 rfl rfl)
theorem dX4_exchange_7 : decode cX4_exchange 7 = .ok (.aload_n 0, 1) := dk_42 (dk_at dksX4_exchange_0 7 rfl rfl)
theorem dX4_exchange_8 : decode cX4_exchange 8 = .ok (.getfield 9, 3) := dk_180 0 9 (dk_at dksX4_exchange_0 8 rfl rfl)
theorem dX4_exchange_11 : decode cX4_exchange 11 = .ok (.iload_n 1, 1) := dk_27 (dk_at dksX4_exchange_0 11 rfl rfl)
theorem dX4_exchange_12 : decode cX4_exchange 12 = .ok (.aload_n 0, 1) := dk_42 (dk_at dksX4_exchange_0 12 rfl rfl)
theorem dX4_exchange_13 : decode cX4_exchange 13 = .ok (.getfield 9, 3) := dk_180 0 9 (dk_at dksX4_exchange_0 13 rfl rfl)
theorem dX4_exchange_16 : decode cX4_exchange 16 = .ok (.iload_n 2, 1) := dk_28 (dk_at dksX4_exchange_0 16 rfl rfl)
theorem dX4_exchange_17 : decode cX4_exchange 17 = .ok (.iaload, 1) := dk_46 (dk_at dksX4_exchange_0 17 rfl rfl)
theorem dX4_exchange_18 : decode cX4_exchange 18 = .ok (.iastore, 1) := dk_79 (dk_at dksX4_exchange_0 18 rfl rfl)
theorem dX4_exchange_19 : decode cX4_exchange 19 = .ok (.aload_n 0, 1) := dk_42 (dk_at dksX4_exchange_0 19 rfl rfl)
theorem dX4_exchange_20 : decode cX4_exchange 20 = .ok (.getfield 9, 3) := dk_180 0 9 (dk_at dksX4_exchange_0 20 rfl rfl)
theorem dX4_exchange_23 : decode cX4_exchange 23 = .ok (.iload_n 2, 1) := dk_28 (dk_at dksX4_exchange_0 23 rfl rfl)
theorem dX4_exchange_24 : decode cX4_exchange 24 = .ok (.iload_n 3, 1) := dk_29 (dk_at dksX4_exchange_1 0 rfl rfl)
theorem dX4_exchange_25 : decode cX4_exchange 25 = .ok (.iastore, 1) := dk_79 (dk_at dksX4_exchange_1 1 rfl rfl)
theorem dX4_exchange_26 : decode cX4_exchange 26 = .ok (.return_, 1) := dk_177 (dk_at dksX4_exchange_1 2 rfl rfl)
abbrev cX4_arrives : ByteArray := prog_13_method_10_code
def yX4_arrives : MethodName := ⟨RX4, "arrives", "(III)I"⟩
def dkwX4_arrives_2 : List UInt8 := [153, 0, 20, 21, 4, 29, 42, 180, 0, 21, 180, 0, 77, 96, 184, 0, 80, 167, 0, 5, 21, 4, 172]
abbrev dktX4_arrives_2 : List UInt8 := dkwX4_arrives_2 ++ []
def dkwX4_arrives_1 : List UInt8 := [167, 0, 5, 18, 74, 54, 4, 42, 180, 0, 9, 27, 46, 28, 160, 0, 29, 42, 27, 29, 182, 0, 75]
abbrev dktX4_arrives_1 : List UInt8 := dkwX4_arrives_1 ++ dktX4_arrives_2
def dkwX4_arrives_0 : List UInt8 := [42, 180, 0, 21, 27, 28, 182, 0, 70, 158, 0, 17, 29, 42, 180, 0, 21, 27, 28, 182, 0, 70, 96]
abbrev dktX4_arrives_0 : List UInt8 := dkwX4_arrives_0 ++ dktX4_arrives_1
theorem dksX4_arrives_0 : cX4_arrives.data.toList.drop 0 = dktX4_arrives_0 := by decide +kernel
theorem dksX4_arrives_1 : cX4_arrives.data.toList.drop 23 = dktX4_arrives_1 := dk_seg dksX4_arrives_0 23 rfl rfl
theorem dksX4_arrives_2 : cX4_arrives.data.toList.drop 46 = dktX4_arrives_2 := dk_seg dksX4_arrives_1 23 rfl rfl
theorem dX4_arrives_0 : decode cX4_arrives 0 = .ok (.aload_n 0, 1) := dk_42 (dk_at dksX4_arrives_0 0 rfl rfl)
theorem dX4_arrives_1 : decode cX4_arrives 1 = .ok (.getfield 21, 3) := dk_180 0 21 (dk_at dksX4_arrives_0 1 rfl rfl)
theorem dX4_arrives_4 : decode cX4_arrives 4 = .ok (.iload_n 1, 1) := dk_27 (dk_at dksX4_arrives_0 4 rfl rfl)
theorem dX4_arrives_5 : decode cX4_arrives 5 = .ok (.iload_n 2, 1) := dk_28 (dk_at dksX4_arrives_0 5 rfl rfl)
theorem dX4_arrives_6 : decode cX4_arrives 6 = .ok (.invokevirtual 70, 3) := dk_182 0 70 (dk_at dksX4_arrives_0 6 rfl rfl)
theorem dX4_arrives_9 : decode cX4_arrives 9 = .ok (.ifCond .le 17, 3) := dk_158 0 17 (dk_at dksX4_arrives_0 9 rfl rfl)
theorem dX4_arrives_12 : decode cX4_arrives 12 = .ok (.iload_n 3, 1) := dk_29 (dk_at dksX4_arrives_0 12 rfl rfl)
theorem dX4_arrives_13 : decode cX4_arrives 13 = .ok (.aload_n 0, 1) := dk_42 (dk_at dksX4_arrives_0 13 rfl rfl)
theorem dX4_arrives_14 : decode cX4_arrives 14 = .ok (.getfield 21, 3) := dk_180 0 21 (dk_at dksX4_arrives_0 14 rfl rfl)
theorem dX4_arrives_17 : decode cX4_arrives 17 = .ok (.iload_n 1, 1) := dk_27 (dk_at dksX4_arrives_0 17 rfl rfl)
theorem dX4_arrives_18 : decode cX4_arrives 18 = .ok (.iload_n 2, 1) := dk_28 (dk_at dksX4_arrives_0 18 rfl rfl)
theorem dX4_arrives_19 : decode cX4_arrives 19 = .ok (.invokevirtual 70, 3) := dk_182 0 70 (dk_at dksX4_arrives_0 19 rfl rfl)
theorem dX4_arrives_22 : decode cX4_arrives 22 = .ok (.iadd, 1) := dk_96 (dk_at dksX4_arrives_0 22 rfl rfl)
theorem dX4_arrives_23 : decode cX4_arrives 23 = .ok (.goto 5, 3) := dk_167 0 5 (dk_at dksX4_arrives_1 0 rfl rfl)
theorem dX4_arrives_26 : decode cX4_arrives 26 = .ok (.ldc 74, 2) := dk_18 74 (dk_at dksX4_arrives_1 3 rfl rfl)
theorem dX4_arrives_28 : decode cX4_arrives 28 = .ok (.istore 4, 2) := dk_54 4 (dk_at dksX4_arrives_1 5 rfl rfl)
theorem dX4_arrives_30 : decode cX4_arrives 30 = .ok (.aload_n 0, 1) := dk_42 (dk_at dksX4_arrives_1 7 rfl rfl)
theorem dX4_arrives_31 : decode cX4_arrives 31 = .ok (.getfield 9, 3) := dk_180 0 9 (dk_at dksX4_arrives_1 8 rfl rfl)
theorem dX4_arrives_34 : decode cX4_arrives 34 = .ok (.iload_n 1, 1) := dk_27 (dk_at dksX4_arrives_1 11 rfl rfl)
theorem dX4_arrives_35 : decode cX4_arrives 35 = .ok (.iaload, 1) := dk_46 (dk_at dksX4_arrives_1 12 rfl rfl)
theorem dX4_arrives_36 : decode cX4_arrives 36 = .ok (.iload_n 2, 1) := dk_28 (dk_at dksX4_arrives_1 13 rfl rfl)
theorem dX4_arrives_37 : decode cX4_arrives 37 = .ok (.if_icmp .ne 29, 3) := dk_160 0 29 (dk_at dksX4_arrives_1 14 rfl rfl)
theorem dX4_arrives_40 : decode cX4_arrives 40 = .ok (.aload_n 0, 1) := dk_42 (dk_at dksX4_arrives_1 17 rfl rfl)
theorem dX4_arrives_41 : decode cX4_arrives 41 = .ok (.iload_n 1, 1) := dk_27 (dk_at dksX4_arrives_1 18 rfl rfl)
theorem dX4_arrives_42 : decode cX4_arrives 42 = .ok (.iload_n 3, 1) := dk_29 (dk_at dksX4_arrives_1 19 rfl rfl)
theorem dX4_arrives_43 : decode cX4_arrives 43 = .ok (.invokevirtual 75, 3) := dk_182 0 75 (dk_at dksX4_arrives_1 20 rfl rfl)
theorem dX4_arrives_46 : decode cX4_arrives 46 = .ok (.ifCond .eq 20, 3) := dk_153 0 20 (dk_at dksX4_arrives_2 0 rfl rfl)
theorem dX4_arrives_49 : decode cX4_arrives 49 = .ok (.iload 4, 2) := dk_21 4 (dk_at dksX4_arrives_2 3 rfl rfl)
theorem dX4_arrives_51 : decode cX4_arrives 51 = .ok (.iload_n 3, 1) := dk_29 (dk_at dksX4_arrives_2 5 rfl rfl)
theorem dX4_arrives_52 : decode cX4_arrives 52 = .ok (.aload_n 0, 1) := dk_42 (dk_at dksX4_arrives_2 6 rfl rfl)
theorem dX4_arrives_53 : decode cX4_arrives 53 = .ok (.getfield 21, 3) := dk_180 0 21 (dk_at dksX4_arrives_2 7 rfl rfl)
theorem dX4_arrives_56 : decode cX4_arrives 56 = .ok (.getfield 77, 3) := dk_180 0 77 (dk_at dksX4_arrives_2 10 rfl rfl)
theorem dX4_arrives_59 : decode cX4_arrives 59 = .ok (.iadd, 1) := dk_96 (dk_at dksX4_arrives_2 13 rfl rfl)
theorem dX4_arrives_60 : decode cX4_arrives 60 = .ok (.invokestatic 80, 3) := dk_184 0 80 (dk_at dksX4_arrives_2 14 rfl rfl)
theorem dX4_arrives_63 : decode cX4_arrives 63 = .ok (.goto 5, 3) := dk_167 0 5 (dk_at dksX4_arrives_2 17 rfl rfl)
theorem dX4_arrives_66 : decode cX4_arrives 66 = .ok (.iload 4, 2) := dk_21 4 (dk_at dksX4_arrives_2 20 rfl rfl)
theorem dX4_arrives_68 : decode cX4_arrives 68 = .ok (.ireturn, 1) := dk_172 (dk_at dksX4_arrives_2 22 rfl rfl)
theorem q117 : (Jvm.Cond.initialized "WrongRoom$Rooms") ∈ lw_all := lw_g (lw_at lw_m1 7 rfl) rfl
theorem q265 : (Jvm.Cond.instantiable "WrongRoom$Rooms" (5 : Nat)) ∈ lw_all := lw_g (lw_at lw_m1 155 rfl) rfl
theorem q267 : (Jvm.Cond.instanceMethod ({ cls := "WrongRoom$Rooms", name := "<init>", desc := "()V" } : Jvm.MethodName)) ∈ lw_all := lw_g (lw_at lw_m1 157 rfl) rfl
theorem q268 : (Jvm.Cond.code ({ cls := "WrongRoom$Rooms", name := "<init>", desc := "()V" } : Jvm.MethodName) prog_13_method_1_code (1 : Nat) (Option.none : Option Jvm.ClassFile.FieldType)) ∈ lw_all := lw_g (lw_at lw_m1 158 rfl) rfl
theorem q269 : (Jvm.Cond.methodLink "WrongRoom$Rooms" (3 : Nat) ({ cls := "java/lang/Object", name := "<init>", desc := "()V" } : Jvm.MethodName)) ∈ lw_all := lw_g (lw_at lw_m1 159 rfl) rfl
theorem q270 : (Jvm.Cond.fieldLink "WrongRoom$Rooms" (9 : Nat) "WrongRoom$Rooms" "wrong" "[I") ∈ lw_all := lw_g (lw_at lw_m1 160 rfl) rfl
theorem q274 : (Jvm.Cond.fieldLink "WrongRoom$Rooms" (15 : Nat) "WrongRoom$Rooms" "at" "[I") ∈ lw_all := lw_g (lw_at lw_m1 164 rfl) rfl
theorem q276 : (Jvm.Cond.fieldLink "WrongRoom$Rooms" (18 : Nat) "WrongRoom$Rooms" "minutes" "[I") ∈ lw_all := lw_g (lw_at lw_m1 166 rfl) rfl
theorem q278 : (Jvm.Cond.fieldLink "WrongRoom$Rooms" (21 : Nat) "WrongRoom$Rooms" "town" "LWrongRoom$Town;") ∈ lw_all := lw_g (lw_at lw_m1 168 rfl) rfl
theorem q279 : (Jvm.Cond.fieldLink "WrongRoom$Rooms" (25 : Nat) "WrongRoom$Rooms" "shut" "I") ∈ lw_all := lw_g (lw_at lw_m1 169 rfl) rfl
theorem q281 : (Jvm.Cond.laysFinal "WrongRoom$Rooms" "WrongRoom$Rooms" "wrong" "[I") ∈ lw_all := lw_g (lw_at lw_m1 171 rfl) rfl
theorem q282 : (Jvm.Cond.soleField "WrongRoom$Rooms" "wrong") ∈ lw_all := lw_g (lw_at lw_m1 172 rfl) rfl
theorem q283 : (Jvm.Cond.laysFinal "WrongRoom$Rooms" "WrongRoom$Rooms" "at" "[I") ∈ lw_all := lw_g (lw_at lw_m1 173 rfl) rfl
theorem q284 : (Jvm.Cond.soleField "WrongRoom$Rooms" "at") ∈ lw_all := lw_g (lw_at lw_m1 174 rfl) rfl
theorem q285 : (Jvm.Cond.laysFinal "WrongRoom$Rooms" "WrongRoom$Rooms" "minutes" "[I") ∈ lw_all := lw_g (lw_at lw_m1 175 rfl) rfl
theorem q286 : (Jvm.Cond.soleField "WrongRoom$Rooms" "minutes") ∈ lw_all := lw_g (lw_at lw_m1 176 rfl) rfl
theorem q287 : (Jvm.Cond.lays "WrongRoom$Rooms" "WrongRoom$Rooms" "town" "LWrongRoom$Town;") ∈ lw_all := lw_g (lw_at lw_m1 177 rfl) rfl
theorem q288 : (Jvm.Cond.soleField "WrongRoom$Rooms" "town") ∈ lw_all := lw_g (lw_at lw_m1 178 rfl) rfl
theorem q289 : (Jvm.Cond.lays "WrongRoom$Rooms" "WrongRoom$Rooms" "shut" "I") ∈ lw_all := lw_g (lw_at lw_m1 179 rfl) rfl
theorem q290 : (Jvm.Cond.soleField "WrongRoom$Rooms" "shut") ∈ lw_all := lw_g (lw_at lw_m1 180 rfl) rfl
theorem q291 : (Jvm.Cond.superclass "WrongRoom$Rooms" "java/lang/Object") ∈ lw_all := lw_g (lw_at lw_m1 181 rfl) rfl
theorem q505 : (Jvm.Cond.fieldLink "WrongRoom$Rooms" (34 : Nat) "WrongRoom$Town" "houses" "[LWrongRoom$House;") ∈ lw_all := lw_g (lw_at lw_m2 155 rfl) rfl
theorem q509 : (Jvm.Cond.fieldLink "WrongRoom$Rooms" (45 : Nat) "WrongRoom$Town" "people" "[LWrongRoom$Person;") ∈ lw_all := lw_g (lw_at lw_m2 159 rfl) rfl
theorem q518 : (Jvm.Cond.fieldLink "WrongRoom$Rooms" (77 : Nat) "WrongRoom$Town" "door" "I") ∈ lw_all := lw_g (lw_at lw_m2 168 rfl) rfl
theorem q524 : (Jvm.Cond.fieldLink "WrongRoom$Rooms" (29 : Nat) "WrongRoom$Town" "houseMany" "I") ∈ lw_all := lw_g (lw_at lw_m2 174 rfl) rfl
theorem q535 : (Jvm.Cond.fieldLink "WrongRoom$Rooms" (42 : Nat) "WrongRoom$Town" "personMany" "I") ∈ lw_all := lw_g (lw_at lw_m2 185 rfl) rfl
theorem q810 : (Jvm.Cond.fieldLink "WrongRoom$Rooms" (38 : Nat) "WrongRoom$House" "wrong" "I") ∈ lw_all := lw_g (lw_at lw_m3 220 rfl) rfl
theorem q893 : (Jvm.Cond.fieldLink "WrongRoom$Rooms" (49 : Nat) "WrongRoom$Person" "at" "I") ∈ lw_all := lw_g (lw_at lw_m4 63 rfl) rfl
theorem q950 : (Jvm.Cond.instanceMethod ({ cls := "WrongRoom$Rooms", name := "begin", desc := "(LWrongRoom$Town;)V" } : Jvm.MethodName)) ∈ lw_all := lw_g (lw_at lw_m4 120 rfl) rfl
theorem q951 : (Jvm.Cond.selects "WrongRoom$Rooms" ({ cls := "WrongRoom$Rooms", name := "begin", desc := "(LWrongRoom$Town;)V" } : Jvm.MethodName) ({ cls := "WrongRoom$Rooms", name := "begin", desc := "(LWrongRoom$Town;)V" } : Jvm.MethodName)) ∈ lw_all := lw_g (lw_at lw_m4 121 rfl) rfl
theorem q952 : (Jvm.Cond.code ({ cls := "WrongRoom$Rooms", name := "begin", desc := "(LWrongRoom$Town;)V" } : Jvm.MethodName) prog_13_method_2_code (3 : Nat) (Option.none : Option Jvm.ClassFile.FieldType)) ∈ lw_all := lw_g (lw_at lw_m4 122 rfl) rfl
theorem q970 : (Jvm.Cond.instanceMethod ({ cls := "WrongRoom$Rooms", name := "lender", desc := "(I)I" } : Jvm.MethodName)) ∈ lw_all := lw_g (lw_at lw_m4 140 rfl) rfl
theorem q971 : (Jvm.Cond.selects "WrongRoom$Rooms" ({ cls := "WrongRoom$Rooms", name := "lender", desc := "(I)I" } : Jvm.MethodName) ({ cls := "WrongRoom$Rooms", name := "lender", desc := "(I)I" } : Jvm.MethodName)) ∈ lw_all := lw_g (lw_at lw_m4 141 rfl) rfl
theorem q972 : (Jvm.Cond.code ({ cls := "WrongRoom$Rooms", name := "lender", desc := "(I)I" } : Jvm.MethodName) prog_13_method_5_code (3 : Nat) (Option.some Jvm.ClassFile.FieldType.int)) ∈ lw_all := lw_g (lw_at lw_m4 142 rfl) rfl
theorem q985 : (Jvm.Cond.instanceMethod ({ cls := "WrongRoom$Rooms", name := "isOpen", desc := "(II)Z" } : Jvm.MethodName)) ∈ lw_all := lw_g (lw_at lw_m4 155 rfl) rfl
theorem q986 : (Jvm.Cond.selects "WrongRoom$Rooms" ({ cls := "WrongRoom$Rooms", name := "isOpen", desc := "(II)Z" } : Jvm.MethodName) ({ cls := "WrongRoom$Rooms", name := "isOpen", desc := "(II)Z" } : Jvm.MethodName)) ∈ lw_all := lw_g (lw_at lw_m4 156 rfl) rfl
theorem q987 : (Jvm.Cond.code ({ cls := "WrongRoom$Rooms", name := "isOpen", desc := "(II)Z" } : Jvm.MethodName) prog_13_method_4_code (3 : Nat) (Option.some Jvm.ClassFile.FieldType.boolean)) ∈ lw_all := lw_g (lw_at lw_m4 157 rfl) rfl
theorem q988 : (Jvm.Cond.methodLinkNest "WrongRoom$Rooms" (59 : Nat) ({ cls := "WrongRoom", name := "has", desc := "(II)Z" } : Jvm.MethodName) "WrongRoom") ∈ lw_tbl := lw_at lw_m4 158 rfl
theorem q989 : (Jvm.Cond.methodLink "WrongRoom$Rooms" (63 : Nat) ({ cls := "WrongRoom$House", name := "isOpen", desc := "(I)Z" } : Jvm.MethodName)) ∈ lw_all := lw_g (lw_at lw_m4 159 rfl) rfl
theorem q1024 : (Jvm.Cond.instanceMethod ({ cls := "WrongRoom$Rooms", name := "mutual", desc := "()I" } : Jvm.MethodName)) ∈ lw_all := lw_g (lw_at lw_m4 194 rfl) rfl
theorem q1025 : (Jvm.Cond.selects "WrongRoom$Rooms" ({ cls := "WrongRoom$Rooms", name := "mutual", desc := "()I" } : Jvm.MethodName) ({ cls := "WrongRoom$Rooms", name := "mutual", desc := "()I" } : Jvm.MethodName)) ∈ lw_all := lw_g (lw_at lw_m4 195 rfl) rfl
theorem q1026 : (Jvm.Cond.code ({ cls := "WrongRoom$Rooms", name := "mutual", desc := "()I" } : Jvm.MethodName) prog_13_method_7_code (3 : Nat) (Option.some Jvm.ClassFile.FieldType.int)) ∈ lw_all := lw_g (lw_at lw_m4 196 rfl) rfl
theorem q1027 : (Jvm.Cond.methodLink "WrongRoom$Rooms" (67 : Nat) ({ cls := "WrongRoom$Rooms", name := "isMutual", desc := "(I)Z" } : Jvm.MethodName)) ∈ lw_all := lw_g (lw_at lw_m4 197 rfl) rfl
theorem q1028 : (Jvm.Cond.instanceMethod ({ cls := "WrongRoom$Rooms", name := "isMutual", desc := "(I)Z" } : Jvm.MethodName)) ∈ lw_all := lw_g (lw_at lw_m4 198 rfl) rfl
theorem q1029 : (Jvm.Cond.selects "WrongRoom$Rooms" ({ cls := "WrongRoom$Rooms", name := "isMutual", desc := "(I)Z" } : Jvm.MethodName) ({ cls := "WrongRoom$Rooms", name := "isMutual", desc := "(I)Z" } : Jvm.MethodName)) ∈ lw_all := lw_g (lw_at lw_m4 199 rfl) rfl
theorem q1030 : (Jvm.Cond.code ({ cls := "WrongRoom$Rooms", name := "isMutual", desc := "(I)Z" } : Jvm.MethodName) prog_13_method_6_code (2 : Nat) (Option.some Jvm.ClassFile.FieldType.boolean)) ∈ lw_all := lw_g (lw_at lw_m4 200 rfl) rfl
theorem q1084 : (Jvm.Cond.instanceMethod ({ cls := "WrongRoom$Rooms", name := "opens", desc := "(II)I" } : Jvm.MethodName)) ∈ lw_all := lw_g (lw_at lw_m5 14 rfl) rfl
theorem q1085 : (Jvm.Cond.selects "WrongRoom$Rooms" ({ cls := "WrongRoom$Rooms", name := "opens", desc := "(II)I" } : Jvm.MethodName) ({ cls := "WrongRoom$Rooms", name := "opens", desc := "(II)I" } : Jvm.MethodName)) ∈ lw_all := lw_g (lw_at lw_m5 15 rfl) rfl
theorem q1086 : (Jvm.Cond.code ({ cls := "WrongRoom$Rooms", name := "opens", desc := "(II)I" } : Jvm.MethodName) prog_13_method_11_code (4 : Nat) (Option.some Jvm.ClassFile.FieldType.int)) ∈ lw_all := lw_g (lw_at lw_m5 16 rfl) rfl
theorem q1087 : (Jvm.Cond.constant "WrongRoom$Rooms" (74 : Nat) (100000000 : Int32)) ∈ lw_all := lw_g (lw_at lw_m5 17 rfl) rfl
theorem q1219 : (Jvm.Cond.instanceMethod ({ cls := "WrongRoom$Rooms", name := "become", desc := "(LWrongRoom$Rooms;)V" } : Jvm.MethodName)) ∈ lw_all := lw_g (lw_at lw_m5 149 rfl) rfl
theorem q1220 : (Jvm.Cond.selects "WrongRoom$Rooms" ({ cls := "WrongRoom$Rooms", name := "become", desc := "(LWrongRoom$Rooms;)V" } : Jvm.MethodName) ({ cls := "WrongRoom$Rooms", name := "become", desc := "(LWrongRoom$Rooms;)V" } : Jvm.MethodName)) ∈ lw_all := lw_g (lw_at lw_m5 150 rfl) rfl
theorem q1221 : (Jvm.Cond.code ({ cls := "WrongRoom$Rooms", name := "become", desc := "(LWrongRoom$Rooms;)V" } : Jvm.MethodName) prog_13_method_3_code (2 : Nat) (Option.none : Option Jvm.ClassFile.FieldType)) ∈ lw_all := lw_g (lw_at lw_m5 151 rfl) rfl
theorem q1222 : (Jvm.Cond.methodLink "WrongRoom$Rooms" (53 : Nat) ({ cls := "java/lang/System", name := "arraycopy", desc := "(Ljava/lang/Object;ILjava/lang/Object;II)V" } : Jvm.MethodName)) ∈ lw_all := lw_g (lw_at lw_m5 152 rfl) rfl
theorem q1233 : (Jvm.Cond.instanceMethod ({ cls := "WrongRoom$Rooms", name := "canExchange", desc := "(II)Z" } : Jvm.MethodName)) ∈ lw_all := lw_g (lw_at lw_m5 163 rfl) rfl
theorem q1234 : (Jvm.Cond.selects "WrongRoom$Rooms" ({ cls := "WrongRoom$Rooms", name := "canExchange", desc := "(II)Z" } : Jvm.MethodName) ({ cls := "WrongRoom$Rooms", name := "canExchange", desc := "(II)Z" } : Jvm.MethodName)) ∈ lw_all := lw_g (lw_at lw_m5 164 rfl) rfl
theorem q1235 : (Jvm.Cond.code ({ cls := "WrongRoom$Rooms", name := "canExchange", desc := "(II)Z" } : Jvm.MethodName) prog_13_method_8_code (3 : Nat) (Option.some Jvm.ClassFile.FieldType.boolean)) ∈ lw_all := lw_g (lw_at lw_m5 165 rfl) rfl
theorem q1237 : (Jvm.Cond.instanceMethod ({ cls := "WrongRoom$Rooms", name := "exchange", desc := "(II)V" } : Jvm.MethodName)) ∈ lw_all := lw_g (lw_at lw_m5 167 rfl) rfl
theorem q1238 : (Jvm.Cond.selects "WrongRoom$Rooms" ({ cls := "WrongRoom$Rooms", name := "exchange", desc := "(II)V" } : Jvm.MethodName) ({ cls := "WrongRoom$Rooms", name := "exchange", desc := "(II)V" } : Jvm.MethodName)) ∈ lw_all := lw_g (lw_at lw_m5 168 rfl) rfl
theorem q1239 : (Jvm.Cond.code ({ cls := "WrongRoom$Rooms", name := "exchange", desc := "(II)V" } : Jvm.MethodName) prog_13_method_9_code (4 : Nat) (Option.none : Option Jvm.ClassFile.FieldType)) ∈ lw_all := lw_g (lw_at lw_m5 169 rfl) rfl
theorem q1334 : (Jvm.Cond.instanceMethod ({ cls := "WrongRoom$Rooms", name := "arrives", desc := "(III)I" } : Jvm.MethodName)) ∈ lw_all := lw_g (lw_at lw_m6 24 rfl) rfl
theorem q1335 : (Jvm.Cond.selects "WrongRoom$Rooms" ({ cls := "WrongRoom$Rooms", name := "arrives", desc := "(III)I" } : Jvm.MethodName) ({ cls := "WrongRoom$Rooms", name := "arrives", desc := "(III)I" } : Jvm.MethodName)) ∈ lw_all := lw_g (lw_at lw_m6 25 rfl) rfl
theorem q1336 : (Jvm.Cond.code ({ cls := "WrongRoom$Rooms", name := "arrives", desc := "(III)I" } : Jvm.MethodName) prog_13_method_10_code (5 : Nat) (Option.some Jvm.ClassFile.FieldType.int)) ∈ lw_all := lw_g (lw_at lw_m6 26 rfl) rfl
theorem q1337 : (Jvm.Cond.methodLink "WrongRoom$Rooms" (70 : Nat) ({ cls := "WrongRoom$Town", name := "street", desc := "(II)I" } : Jvm.MethodName)) ∈ lw_all := lw_g (lw_at lw_m6 27 rfl) rfl
theorem q1338 : (Jvm.Cond.methodLink "WrongRoom$Rooms" (75 : Nat) ({ cls := "WrongRoom$Rooms", name := "isOpen", desc := "(II)Z" } : Jvm.MethodName)) ∈ lw_all := lw_g (lw_at lw_m6 28 rfl) rfl
theorem q1339 : (Jvm.Cond.methodLink "WrongRoom$Rooms" (80 : Nat) ({ cls := "java/lang/Math", name := "min", desc := "(II)I" } : Jvm.MethodName)) ∈ lw_all := lw_g (lw_at lw_m6 29 rfl) rfl
theorem q2171 : (Jvm.Cond.castable "WrongRoom$Rooms" "java/lang/Object") ∈ lw_tbl := lw_at lw_m9 141 rfl
theorem in_X4 : ∀ w ∈ wsX40, w ∈ lw_all := lw_in wsX40 [281, 283, 285, 287, 289] (by decide +kernel) (by decide +kernel)
/-! WrongRoom$Ways -/
set_option maxRecDepth 100000
def RX5 : String := "WrongRoom$Ways"
def TX5 : u_T := fun k => match k with
  | 0 => ("WrongRoom$Ways", "row", "[I", true)
  | 1 => ("WrongRoom$Ways", "best", "[I", true)
  | 2 => ("WrongRoom$Ways", "town", "LWrongRoom$Town;", false)
  | 3 => ("WrongRoom$Ways", "rooms", "LWrongRoom$Rooms;", false)
  | 4 => ("WrongRoom$Ways", "by", "LWrongRoom$Going;", false)
  | 5 => ("WrongRoom$Ways", "goal", "I", false)
  | 6 => ("WrongRoom$Ways", "soonest", "I", false)
  | _ => ("WrongRoom$Ways", "many", "I", false)
def tyX5 : Nat → FieldType := fun k => match k with
  | 0 => .array .int
  | 1 => .array .int
  | 2 => .object "WrongRoom$Town"
  | 3 => .object "WrongRoom$Rooms"
  | 4 => .object "WrongRoom$Going"
  | 5 => .int
  | 6 => .int
  | _ => .int
abbrev wsX50 : List Cond := u_ws RX5 TX5 8
theorem nmX5 : ∀ a, a < 8 → ∀ b, b < 8 → a ≠ b → (TX5 a).2.1 ≠ (TX5 b).2.1 := by decide +kernel
theorem tyX5_ok : ∀ k, k < 8 → parseFieldDescriptor (TX5 k).2.2.1 = some (tyX5 k) := by decide +kernel
abbrev cX5_init : ByteArray := prog_17_method_1_code
def yX5_init : MethodName := ⟨RX5, "<init>", "()V"⟩
def dkwX5_init_0 : List UInt8 := [42, 183, 0, 3, 42, 16, 7, 188, 10, 181, 0, 9, 42, 16, 7, 188, 10, 181, 0, 15, 177]
abbrev dktX5_init_0 : List UInt8 := dkwX5_init_0 ++ []
theorem dksX5_init_0 : cX5_init.data.toList.drop 0 = dktX5_init_0 := by decide +kernel
theorem dX5_init_0 : decode cX5_init 0 = .ok (.aload_n 0, 1) := dk_42 (dk_at dksX5_init_0 0 rfl rfl)
theorem dX5_init_1 : decode cX5_init 1 = .ok (.invokespecial 3, 3) := dk_183 0 3 (dk_at dksX5_init_0 1 rfl rfl)
theorem dX5_init_4 : decode cX5_init 4 = .ok (.aload_n 0, 1) := dk_42 (dk_at dksX5_init_0 4 rfl rfl)
theorem dX5_init_5 : decode cX5_init 5 = .ok (.bipush 7, 2) := dk_16 7 (dk_at dksX5_init_0 5 rfl rfl)
theorem dX5_init_7 : decode cX5_init 7 = .ok (.newarray .int, 2) := dk_188_10 (dk_at dksX5_init_0 7 rfl rfl)
theorem dX5_init_9 : decode cX5_init 9 = .ok (.putfield 9, 3) := dk_181 0 9 (dk_at dksX5_init_0 9 rfl rfl)
theorem dX5_init_12 : decode cX5_init 12 = .ok (.aload_n 0, 1) := dk_42 (dk_at dksX5_init_0 12 rfl rfl)
theorem dX5_init_13 : decode cX5_init 13 = .ok (.bipush 7, 2) := dk_16 7 (dk_at dksX5_init_0 13 rfl rfl)
theorem dX5_init_15 : decode cX5_init 15 = .ok (.newarray .int, 2) := dk_188_10 (dk_at dksX5_init_0 15 rfl rfl)
theorem dX5_init_17 : decode cX5_init 17 = .ok (.putfield 15, 3) := dk_181 0 15 (dk_at dksX5_init_0 17 rfl rfl)
theorem dX5_init_20 : decode cX5_init 20 = .ok (.return_, 1) := dk_177 (dk_at dksX5_init_0 20 rfl rfl)
abbrev cX5_seek : ByteArray := prog_17_method_2_code
def yX5_seek : MethodName := ⟨RX5, "seek", "(LWrongRoom$Town;LWrongRoom$Rooms;LWrongRoom$Going;III)I"⟩
def dkwX5_seek_2 : List UInt8 := [180, 0, 35, 172]
abbrev dktX5_seek_2 : List UInt8 := dkwX5_seek_2 ++ []
def dkwX5_seek_1 : List UInt8 := [181, 0, 35, 42, 3, 181, 0, 38, 42, 3, 21, 4, 4, 21, 4, 120, 21, 6, 182, 0, 41, 42]
abbrev dktX5_seek_1 : List UInt8 := dkwX5_seek_1 ++ dktX5_seek_2
def dkwX5_seek_0 : List UInt8 := [42, 43, 181, 0, 18, 42, 44, 181, 0, 22, 42, 45, 181, 0, 26, 42, 21, 5, 181, 0, 30, 42, 18, 34]
abbrev dktX5_seek_0 : List UInt8 := dkwX5_seek_0 ++ dktX5_seek_1
theorem dksX5_seek_0 : cX5_seek.data.toList.drop 0 = dktX5_seek_0 := by decide +kernel
theorem dksX5_seek_1 : cX5_seek.data.toList.drop 24 = dktX5_seek_1 := dk_seg dksX5_seek_0 24 rfl rfl
theorem dksX5_seek_2 : cX5_seek.data.toList.drop 46 = dktX5_seek_2 := dk_seg dksX5_seek_1 22 rfl rfl
theorem dX5_seek_0 : decode cX5_seek 0 = .ok (.aload_n 0, 1) := dk_42 (dk_at dksX5_seek_0 0 rfl rfl)
theorem dX5_seek_1 : decode cX5_seek 1 = .ok (.aload_n 1, 1) := dk_43 (dk_at dksX5_seek_0 1 rfl rfl)
theorem dX5_seek_2 : decode cX5_seek 2 = .ok (.putfield 18, 3) := dk_181 0 18 (dk_at dksX5_seek_0 2 rfl rfl)
theorem dX5_seek_5 : decode cX5_seek 5 = .ok (.aload_n 0, 1) := dk_42 (dk_at dksX5_seek_0 5 rfl rfl)
theorem dX5_seek_6 : decode cX5_seek 6 = .ok (.aload_n 2, 1) := dk_44 (dk_at dksX5_seek_0 6 rfl rfl)
theorem dX5_seek_7 : decode cX5_seek 7 = .ok (.putfield 22, 3) := dk_181 0 22 (dk_at dksX5_seek_0 7 rfl rfl)
theorem dX5_seek_10 : decode cX5_seek 10 = .ok (.aload_n 0, 1) := dk_42 (dk_at dksX5_seek_0 10 rfl rfl)
theorem dX5_seek_11 : decode cX5_seek 11 = .ok (.aload_n 3, 1) := dk_45 (dk_at dksX5_seek_0 11 rfl rfl)
theorem dX5_seek_12 : decode cX5_seek 12 = .ok (.putfield 26, 3) := dk_181 0 26 (dk_at dksX5_seek_0 12 rfl rfl)
theorem dX5_seek_15 : decode cX5_seek 15 = .ok (.aload_n 0, 1) := dk_42 (dk_at dksX5_seek_0 15 rfl rfl)
theorem dX5_seek_16 : decode cX5_seek 16 = .ok (.iload 5, 2) := dk_21 5 (dk_at dksX5_seek_0 16 rfl rfl)
theorem dX5_seek_18 : decode cX5_seek 18 = .ok (.putfield 30, 3) := dk_181 0 30 (dk_at dksX5_seek_0 18 rfl rfl)
theorem dX5_seek_21 : decode cX5_seek 21 = .ok (.aload_n 0, 1) := dk_42 (dk_at dksX5_seek_0 21 rfl rfl)
theorem dX5_seek_22 : decode cX5_seek 22 = .ok (.ldc 34, 2) := dk_18 34 (dk_at dksX5_seek_0 22 rfl rfl)
theorem dX5_seek_24 : decode cX5_seek 24 = .ok (.putfield 35, 3) := dk_181 0 35 (dk_at dksX5_seek_1 0 rfl rfl)
theorem dX5_seek_27 : decode cX5_seek 27 = .ok (.aload_n 0, 1) := dk_42 (dk_at dksX5_seek_1 3 rfl rfl)
theorem dX5_seek_28 : decode cX5_seek 28 = .ok (.iconst 0, 1) := dk_3 (dk_at dksX5_seek_1 4 rfl rfl)
theorem dX5_seek_29 : decode cX5_seek 29 = .ok (.putfield 38, 3) := dk_181 0 38 (dk_at dksX5_seek_1 5 rfl rfl)
theorem dX5_seek_32 : decode cX5_seek 32 = .ok (.aload_n 0, 1) := dk_42 (dk_at dksX5_seek_1 8 rfl rfl)
theorem dX5_seek_33 : decode cX5_seek 33 = .ok (.iconst 0, 1) := dk_3 (dk_at dksX5_seek_1 9 rfl rfl)
theorem dX5_seek_34 : decode cX5_seek 34 = .ok (.iload 4, 2) := dk_21 4 (dk_at dksX5_seek_1 10 rfl rfl)
theorem dX5_seek_36 : decode cX5_seek 36 = .ok (.iconst 1, 1) := dk_4 (dk_at dksX5_seek_1 12 rfl rfl)
theorem dX5_seek_37 : decode cX5_seek 37 = .ok (.iload 4, 2) := dk_21 4 (dk_at dksX5_seek_1 13 rfl rfl)
theorem dX5_seek_39 : decode cX5_seek 39 = .ok (.ishl, 1) := dk_120 (dk_at dksX5_seek_1 15 rfl rfl)
theorem dX5_seek_40 : decode cX5_seek 40 = .ok (.iload 6, 2) := dk_21 6 (dk_at dksX5_seek_1 16 rfl rfl)
theorem dX5_seek_42 : decode cX5_seek 42 = .ok (.invokevirtual 41, 3) := dk_182 0 41 (dk_at dksX5_seek_1 18 rfl rfl)
theorem dX5_seek_45 : decode cX5_seek 45 = .ok (.aload_n 0, 1) := dk_42 (dk_at dksX5_seek_1 21 rfl rfl)
theorem dX5_seek_46 : decode cX5_seek 46 = .ok (.getfield 35, 3) := dk_180 0 35 (dk_at dksX5_seek_2 0 rfl rfl)
theorem dX5_seek_49 : decode cX5_seek 49 = .ok (.ireturn, 1) := dk_172 (dk_at dksX5_seek_2 3 rfl rfl)
abbrev cX5_comes : ByteArray := prog_17_method_3_code
def yX5_comes : MethodName := ⟨RX5, "comes", "(IIII)V"⟩
def dkwX5_comes_5 : List UInt8 := [132, 5, 1, 167, 255, 197, 177]
abbrev dktX5_comes_5 : List UInt8 := dkwX5_comes_5 ++ []
def dkwX5_comes_4 : List UInt8 := [42, 180, 0, 26, 42, 180, 0, 18, 42, 180, 0, 22, 28, 21, 5, 21, 4, 182, 0, 60, 182, 0, 41]
abbrev dktX5_comes_4 : List UInt8 := dkwX5_comes_4 ++ dktX5_comes_5
def dkwX5_comes_3 : List UInt8 := [162, 0, 53, 29, 21, 5, 184, 0, 56, 154, 0, 38, 42, 27, 4, 96, 21, 5, 29, 4, 21, 5, 120, 128]
abbrev dktX5_comes_3 : List UInt8 := dkwX5_comes_3 ++ dktX5_comes_4
def dkwX5_comes_2 : List UInt8 := [180, 0, 15, 3, 16, 7, 184, 0, 45, 177, 3, 54, 5, 21, 5, 42, 180, 0, 18, 180, 0, 51]
abbrev dktX5_comes_2 : List UInt8 := dkwX5_comes_2 ++ dktX5_comes_3
def dkwX5_comes_1 : List UInt8 := [160, 0, 32, 42, 21, 4, 181, 0, 35, 42, 27, 4, 96, 181, 0, 38, 42, 180, 0, 9, 3, 42]
abbrev dktX5_comes_1 : List UInt8 := dkwX5_comes_1 ++ dktX5_comes_2
def dkwX5_comes_0 : List UInt8 := [42, 180, 0, 9, 27, 28, 79, 21, 4, 42, 180, 0, 35, 161, 0, 4, 177, 28, 42, 180, 0, 30]
abbrev dktX5_comes_0 : List UInt8 := dkwX5_comes_0 ++ dktX5_comes_1
theorem dksX5_comes_0 : cX5_comes.data.toList.drop 0 = dktX5_comes_0 := by decide +kernel
theorem dksX5_comes_1 : cX5_comes.data.toList.drop 22 = dktX5_comes_1 := dk_seg dksX5_comes_0 22 rfl rfl
theorem dksX5_comes_2 : cX5_comes.data.toList.drop 44 = dktX5_comes_2 := dk_seg dksX5_comes_1 22 rfl rfl
theorem dksX5_comes_3 : cX5_comes.data.toList.drop 66 = dktX5_comes_3 := dk_seg dksX5_comes_2 22 rfl rfl
theorem dksX5_comes_4 : cX5_comes.data.toList.drop 90 = dktX5_comes_4 := dk_seg dksX5_comes_3 24 rfl rfl
theorem dksX5_comes_5 : cX5_comes.data.toList.drop 113 = dktX5_comes_5 := dk_seg dksX5_comes_4 23 rfl rfl
theorem dX5_comes_0 : decode cX5_comes 0 = .ok (.aload_n 0, 1) := dk_42 (dk_at dksX5_comes_0 0 rfl rfl)
theorem dX5_comes_1 : decode cX5_comes 1 = .ok (.getfield 9, 3) := dk_180 0 9 (dk_at dksX5_comes_0 1 rfl rfl)
theorem dX5_comes_4 : decode cX5_comes 4 = .ok (.iload_n 1, 1) := dk_27 (dk_at dksX5_comes_0 4 rfl rfl)
theorem dX5_comes_5 : decode cX5_comes 5 = .ok (.iload_n 2, 1) := dk_28 (dk_at dksX5_comes_0 5 rfl rfl)
theorem dX5_comes_6 : decode cX5_comes 6 = .ok (.iastore, 1) := dk_79 (dk_at dksX5_comes_0 6 rfl rfl)
theorem dX5_comes_7 : decode cX5_comes 7 = .ok (.iload 4, 2) := dk_21 4 (dk_at dksX5_comes_0 7 rfl rfl)
theorem dX5_comes_9 : decode cX5_comes 9 = .ok (.aload_n 0, 1) := dk_42 (dk_at dksX5_comes_0 9 rfl rfl)
theorem dX5_comes_10 : decode cX5_comes 10 = .ok (.getfield 35, 3) := dk_180 0 35 (dk_at dksX5_comes_0 10 rfl rfl)
theorem dX5_comes_13 : decode cX5_comes 13 = .ok (.if_icmp .lt 4, 3) := dk_161 0 4 (dk_at dksX5_comes_0 13 rfl rfl)
theorem dX5_comes_16 : decode cX5_comes 16 = .ok (.return_, 1) := dk_177 (dk_at dksX5_comes_0 16 rfl rfl)
theorem dX5_comes_17 : decode cX5_comes 17 = .ok (.iload_n 2, 1) := dk_28 (dk_at dksX5_comes_0 17 rfl rfl)
theorem dX5_comes_18 : decode cX5_comes 18 = .ok (.aload_n 0, 1) := dk_42 (dk_at dksX5_comes_0 18 rfl rfl)
theorem dX5_comes_19 : decode cX5_comes 19 = .ok (.getfield 30, 3) := dk_180 0 30 (dk_at dksX5_comes_0 19 rfl rfl)
theorem dX5_comes_22 : decode cX5_comes 22 = .ok (.if_icmp .ne 32, 3) := dk_160 0 32 (dk_at dksX5_comes_1 0 rfl rfl)
theorem dX5_comes_25 : decode cX5_comes 25 = .ok (.aload_n 0, 1) := dk_42 (dk_at dksX5_comes_1 3 rfl rfl)
theorem dX5_comes_26 : decode cX5_comes 26 = .ok (.iload 4, 2) := dk_21 4 (dk_at dksX5_comes_1 4 rfl rfl)
theorem dX5_comes_28 : decode cX5_comes 28 = .ok (.putfield 35, 3) := dk_181 0 35 (dk_at dksX5_comes_1 6 rfl rfl)
theorem dX5_comes_31 : decode cX5_comes 31 = .ok (.aload_n 0, 1) := dk_42 (dk_at dksX5_comes_1 9 rfl rfl)
theorem dX5_comes_32 : decode cX5_comes 32 = .ok (.iload_n 1, 1) := dk_27 (dk_at dksX5_comes_1 10 rfl rfl)
theorem dX5_comes_33 : decode cX5_comes 33 = .ok (.iconst 1, 1) := dk_4 (dk_at dksX5_comes_1 11 rfl rfl)
theorem dX5_comes_34 : decode cX5_comes 34 = .ok (.iadd, 1) := dk_96 (dk_at dksX5_comes_1 12 rfl rfl)
theorem dX5_comes_35 : decode cX5_comes 35 = .ok (.putfield 38, 3) := dk_181 0 38 (dk_at dksX5_comes_1 13 rfl rfl)
theorem dX5_comes_38 : decode cX5_comes 38 = .ok (.aload_n 0, 1) := dk_42 (dk_at dksX5_comes_1 16 rfl rfl)
theorem dX5_comes_39 : decode cX5_comes 39 = .ok (.getfield 9, 3) := dk_180 0 9 (dk_at dksX5_comes_1 17 rfl rfl)
theorem dX5_comes_42 : decode cX5_comes 42 = .ok (.iconst 0, 1) := dk_3 (dk_at dksX5_comes_1 20 rfl rfl)
theorem dX5_comes_43 : decode cX5_comes 43 = .ok (.aload_n 0, 1) := dk_42 (dk_at dksX5_comes_1 21 rfl rfl)
theorem dX5_comes_44 : decode cX5_comes 44 = .ok (.getfield 15, 3) := dk_180 0 15 (dk_at dksX5_comes_2 0 rfl rfl)
theorem dX5_comes_47 : decode cX5_comes 47 = .ok (.iconst 0, 1) := dk_3 (dk_at dksX5_comes_2 3 rfl rfl)
theorem dX5_comes_48 : decode cX5_comes 48 = .ok (.bipush 7, 2) := dk_16 7 (dk_at dksX5_comes_2 4 rfl rfl)
theorem dX5_comes_50 : decode cX5_comes 50 = .ok (.invokestatic 45, 3) := dk_184 0 45 (dk_at dksX5_comes_2 6 rfl rfl)
theorem dX5_comes_53 : decode cX5_comes 53 = .ok (.return_, 1) := dk_177 (dk_at dksX5_comes_2 9 rfl rfl)
theorem dX5_comes_54 : decode cX5_comes 54 = .ok (.iconst 0, 1) := dk_3 (dk_at dksX5_comes_2 10 rfl rfl)
theorem dX5_comes_55 : decode cX5_comes 55 = .ok (.istore 5, 2) := dk_54 5 (dk_at dksX5_comes_2 11 rfl rfl)
theorem dX5_comes_57 : decode cX5_comes 57 = .ok (.iload 5, 2) := dk_21 5 (dk_at dksX5_comes_2 13 rfl rfl)
theorem dX5_comes_59 : decode cX5_comes 59 = .ok (.aload_n 0, 1) := dk_42 (dk_at dksX5_comes_2 15 rfl rfl)
theorem dX5_comes_60 : decode cX5_comes 60 = .ok (.getfield 18, 3) := dk_180 0 18 (dk_at dksX5_comes_2 16 rfl rfl)
theorem dX5_comes_63 : decode cX5_comes 63 = .ok (.getfield 51, 3) := dk_180 0 51 (dk_at dksX5_comes_2 19 rfl rfl)
theorem dX5_comes_66 : decode cX5_comes 66 = .ok (.if_icmp .ge 53, 3) := dk_162 0 53 (dk_at dksX5_comes_3 0 rfl rfl)
theorem dX5_comes_69 : decode cX5_comes 69 = .ok (.iload_n 3, 1) := dk_29 (dk_at dksX5_comes_3 3 rfl rfl)
theorem dX5_comes_70 : decode cX5_comes 70 = .ok (.iload 5, 2) := dk_21 5 (dk_at dksX5_comes_3 4 rfl rfl)
theorem dX5_comes_72 : decode cX5_comes 72 = .ok (.invokestatic 56, 3) := dk_184 0 56 (dk_at dksX5_comes_3 6 rfl rfl)
theorem dX5_comes_75 : decode cX5_comes 75 = .ok (.ifCond .ne 38, 3) := dk_154 0 38 (dk_at dksX5_comes_3 9 rfl rfl)
theorem dX5_comes_78 : decode cX5_comes 78 = .ok (.aload_n 0, 1) := dk_42 (dk_at dksX5_comes_3 12 rfl rfl)
theorem dX5_comes_79 : decode cX5_comes 79 = .ok (.iload_n 1, 1) := dk_27 (dk_at dksX5_comes_3 13 rfl rfl)
theorem dX5_comes_80 : decode cX5_comes 80 = .ok (.iconst 1, 1) := dk_4 (dk_at dksX5_comes_3 14 rfl rfl)
theorem dX5_comes_81 : decode cX5_comes 81 = .ok (.iadd, 1) := dk_96 (dk_at dksX5_comes_3 15 rfl rfl)
theorem dX5_comes_82 : decode cX5_comes 82 = .ok (.iload 5, 2) := dk_21 5 (dk_at dksX5_comes_3 16 rfl rfl)
theorem dX5_comes_84 : decode cX5_comes 84 = .ok (.iload_n 3, 1) := dk_29 (dk_at dksX5_comes_3 18 rfl rfl)
theorem dX5_comes_85 : decode cX5_comes 85 = .ok (.iconst 1, 1) := dk_4 (dk_at dksX5_comes_3 19 rfl rfl)
theorem dX5_comes_86 : decode cX5_comes 86 = .ok (.iload 5, 2) := dk_21 5 (dk_at dksX5_comes_3 20 rfl rfl)
theorem dX5_comes_88 : decode cX5_comes 88 = .ok (.ishl, 1) := dk_120 (dk_at dksX5_comes_3 22 rfl rfl)
theorem dX5_comes_89 : decode cX5_comes 89 = .ok (.ior, 1) := dk_128 (dk_at dksX5_comes_3 23 rfl rfl)
theorem dX5_comes_90 : decode cX5_comes 90 = .ok (.aload_n 0, 1) := dk_42 (dk_at dksX5_comes_4 0 rfl rfl)
theorem dX5_comes_91 : decode cX5_comes 91 = .ok (.getfield 26, 3) := dk_180 0 26 (dk_at dksX5_comes_4 1 rfl rfl)
theorem dX5_comes_94 : decode cX5_comes 94 = .ok (.aload_n 0, 1) := dk_42 (dk_at dksX5_comes_4 4 rfl rfl)
theorem dX5_comes_95 : decode cX5_comes 95 = .ok (.getfield 18, 3) := dk_180 0 18 (dk_at dksX5_comes_4 5 rfl rfl)
theorem dX5_comes_98 : decode cX5_comes 98 = .ok (.aload_n 0, 1) := dk_42 (dk_at dksX5_comes_4 8 rfl rfl)
theorem dX5_comes_99 : decode cX5_comes 99 = .ok (.getfield 22, 3) := dk_180 0 22 (dk_at dksX5_comes_4 9 rfl rfl)
theorem dX5_comes_102 : decode cX5_comes 102 = .ok (.iload_n 2, 1) := dk_28 (dk_at dksX5_comes_4 12 rfl rfl)
theorem dX5_comes_103 : decode cX5_comes 103 = .ok (.iload 5, 2) := dk_21 5 (dk_at dksX5_comes_4 13 rfl rfl)
theorem dX5_comes_105 : decode cX5_comes 105 = .ok (.iload 4, 2) := dk_21 4 (dk_at dksX5_comes_4 15 rfl rfl)
theorem dX5_comes_107 : decode cX5_comes 107 = .ok (.invokevirtual 60, 3) := dk_182 0 60 (dk_at dksX5_comes_4 17 rfl rfl)
theorem dX5_comes_110 : decode cX5_comes 110 = .ok (.invokevirtual 41, 3) := dk_182 0 41 (dk_at dksX5_comes_4 20 rfl rfl)
theorem dX5_comes_113 : decode cX5_comes 113 = .ok (.iinc 5 1, 3) := dk_132 5 1 (dk_at dksX5_comes_5 0 rfl rfl)
theorem dX5_comes_116 : decode cX5_comes 116 = .ok (.goto (-59), 3) := dk_167 255 197 (dk_at dksX5_comes_5 3 rfl rfl)
theorem dX5_comes_119 : decode cX5_comes 119 = .ok (.return_, 1) := dk_177 (dk_at dksX5_comes_5 6 rfl rfl)
abbrev cX5_many : ByteArray := prog_17_method_4_code
def yX5_many : MethodName := ⟨RX5, "many", "()I"⟩
theorem dX5_many_0 : decode cX5_many 0 = .ok (.aload_n 0, 1) := by decide +kernel
theorem dX5_many_1 : decode cX5_many 1 = .ok (.getfield 38, 3) := by decide +kernel
theorem dX5_many_4 : decode cX5_many 4 = .ok (.ireturn, 1) := by decide +kernel
abbrev cX5_at : ByteArray := prog_17_method_5_code
def yX5_at : MethodName := ⟨RX5, "at", "(I)I"⟩
def dkwX5_at_0 : List UInt8 := [42, 180, 0, 15, 27, 46, 172]
abbrev dktX5_at_0 : List UInt8 := dkwX5_at_0 ++ []
theorem dksX5_at_0 : cX5_at.data.toList.drop 0 = dktX5_at_0 := by decide +kernel
theorem dX5_at_0 : decode cX5_at 0 = .ok (.aload_n 0, 1) := dk_42 (dk_at dksX5_at_0 0 rfl rfl)
theorem dX5_at_1 : decode cX5_at 1 = .ok (.getfield 15, 3) := dk_180 0 15 (dk_at dksX5_at_0 1 rfl rfl)
theorem dX5_at_4 : decode cX5_at 4 = .ok (.iload_n 1, 1) := dk_27 (dk_at dksX5_at_0 4 rfl rfl)
theorem dX5_at_5 : decode cX5_at 5 = .ok (.iaload, 1) := dk_46 (dk_at dksX5_at_0 5 rfl rfl)
theorem dX5_at_6 : decode cX5_at 6 = .ok (.ireturn, 1) := dk_172 (dk_at dksX5_at_0 6 rfl rfl)
theorem q118 : (Jvm.Cond.initialized "WrongRoom$Ways") ∈ lw_all := lw_g (lw_at lw_m1 8 rfl) rfl
theorem q294 : (Jvm.Cond.instantiable "WrongRoom$Ways" (8 : Nat)) ∈ lw_all := lw_g (lw_at lw_m1 184 rfl) rfl
theorem q296 : (Jvm.Cond.instanceMethod ({ cls := "WrongRoom$Ways", name := "<init>", desc := "()V" } : Jvm.MethodName)) ∈ lw_all := lw_g (lw_at lw_m1 186 rfl) rfl
theorem q297 : (Jvm.Cond.code ({ cls := "WrongRoom$Ways", name := "<init>", desc := "()V" } : Jvm.MethodName) prog_17_method_1_code (1 : Nat) (Option.none : Option Jvm.ClassFile.FieldType)) ∈ lw_all := lw_g (lw_at lw_m1 187 rfl) rfl
theorem q298 : (Jvm.Cond.methodLink "WrongRoom$Ways" (3 : Nat) ({ cls := "java/lang/Object", name := "<init>", desc := "()V" } : Jvm.MethodName)) ∈ lw_all := lw_g (lw_at lw_m1 188 rfl) rfl
theorem q299 : (Jvm.Cond.fieldLink "WrongRoom$Ways" (9 : Nat) "WrongRoom$Ways" "row" "[I") ∈ lw_all := lw_g (lw_at lw_m1 189 rfl) rfl
theorem q300 : (Jvm.Cond.fieldLink "WrongRoom$Ways" (15 : Nat) "WrongRoom$Ways" "best" "[I") ∈ lw_all := lw_g (lw_at lw_m1 190 rfl) rfl
theorem q301 : (Jvm.Cond.fieldLink "WrongRoom$Ways" (18 : Nat) "WrongRoom$Ways" "town" "LWrongRoom$Town;") ∈ lw_all := lw_g (lw_at lw_m1 191 rfl) rfl
theorem q302 : (Jvm.Cond.fieldLink "WrongRoom$Ways" (22 : Nat) "WrongRoom$Ways" "rooms" "LWrongRoom$Rooms;") ∈ lw_all := lw_g (lw_at lw_m1 192 rfl) rfl
theorem q303 : (Jvm.Cond.fieldLink "WrongRoom$Ways" (26 : Nat) "WrongRoom$Ways" "by" "LWrongRoom$Going;") ∈ lw_all := lw_g (lw_at lw_m1 193 rfl) rfl
theorem q304 : (Jvm.Cond.fieldLink "WrongRoom$Ways" (30 : Nat) "WrongRoom$Ways" "goal" "I") ∈ lw_all := lw_g (lw_at lw_m1 194 rfl) rfl
theorem q305 : (Jvm.Cond.fieldLink "WrongRoom$Ways" (35 : Nat) "WrongRoom$Ways" "soonest" "I") ∈ lw_all := lw_g (lw_at lw_m1 195 rfl) rfl
theorem q306 : (Jvm.Cond.fieldLink "WrongRoom$Ways" (38 : Nat) "WrongRoom$Ways" "many" "I") ∈ lw_all := lw_g (lw_at lw_m1 196 rfl) rfl
theorem q307 : (Jvm.Cond.laysFinal "WrongRoom$Ways" "WrongRoom$Ways" "row" "[I") ∈ lw_all := lw_g (lw_at lw_m1 197 rfl) rfl
theorem q308 : (Jvm.Cond.soleField "WrongRoom$Ways" "row") ∈ lw_all := lw_g (lw_at lw_m1 198 rfl) rfl
theorem q309 : (Jvm.Cond.laysFinal "WrongRoom$Ways" "WrongRoom$Ways" "best" "[I") ∈ lw_all := lw_g (lw_at lw_m1 199 rfl) rfl
theorem q310 : (Jvm.Cond.soleField "WrongRoom$Ways" "best") ∈ lw_all := lw_g (lw_at lw_m1 200 rfl) rfl
theorem q311 : (Jvm.Cond.lays "WrongRoom$Ways" "WrongRoom$Ways" "town" "LWrongRoom$Town;") ∈ lw_all := lw_g (lw_at lw_m1 201 rfl) rfl
theorem q312 : (Jvm.Cond.soleField "WrongRoom$Ways" "town") ∈ lw_all := lw_g (lw_at lw_m1 202 rfl) rfl
theorem q313 : (Jvm.Cond.lays "WrongRoom$Ways" "WrongRoom$Ways" "rooms" "LWrongRoom$Rooms;") ∈ lw_all := lw_g (lw_at lw_m1 203 rfl) rfl
theorem q314 : (Jvm.Cond.soleField "WrongRoom$Ways" "rooms") ∈ lw_all := lw_g (lw_at lw_m1 204 rfl) rfl
theorem q315 : (Jvm.Cond.lays "WrongRoom$Ways" "WrongRoom$Ways" "by" "LWrongRoom$Going;") ∈ lw_all := lw_g (lw_at lw_m1 205 rfl) rfl
theorem q316 : (Jvm.Cond.soleField "WrongRoom$Ways" "by") ∈ lw_all := lw_g (lw_at lw_m1 206 rfl) rfl
theorem q317 : (Jvm.Cond.lays "WrongRoom$Ways" "WrongRoom$Ways" "goal" "I") ∈ lw_all := lw_g (lw_at lw_m1 207 rfl) rfl
theorem q318 : (Jvm.Cond.soleField "WrongRoom$Ways" "goal") ∈ lw_all := lw_g (lw_at lw_m1 208 rfl) rfl
theorem q319 : (Jvm.Cond.lays "WrongRoom$Ways" "WrongRoom$Ways" "soonest" "I") ∈ lw_all := lw_g (lw_at lw_m1 209 rfl) rfl
theorem q320 : (Jvm.Cond.soleField "WrongRoom$Ways" "soonest") ∈ lw_all := lw_g (lw_at lw_m1 210 rfl) rfl
theorem q321 : (Jvm.Cond.lays "WrongRoom$Ways" "WrongRoom$Ways" "many" "I") ∈ lw_all := lw_g (lw_at lw_m1 211 rfl) rfl
theorem q322 : (Jvm.Cond.soleField "WrongRoom$Ways" "many") ∈ lw_all := lw_g (lw_at lw_m1 212 rfl) rfl
theorem q323 : (Jvm.Cond.superclass "WrongRoom$Ways" "java/lang/Object") ∈ lw_all := lw_g (lw_at lw_m1 213 rfl) rfl
theorem q527 : (Jvm.Cond.fieldLink "WrongRoom$Ways" (51 : Nat) "WrongRoom$Town" "houseMany" "I") ∈ lw_all := lw_g (lw_at lw_m2 177 rfl) rfl
theorem q1060 : (Jvm.Cond.instanceMethod ({ cls := "WrongRoom$Ways", name := "seek", desc := "(LWrongRoom$Town;LWrongRoom$Rooms;LWrongRoom$Going;III)I" } : Jvm.MethodName)) ∈ lw_all := lw_g (lw_at lw_m4 230 rfl) rfl
theorem q1061 : (Jvm.Cond.selects "WrongRoom$Ways" ({ cls := "WrongRoom$Ways", name := "seek", desc := "(LWrongRoom$Town;LWrongRoom$Rooms;LWrongRoom$Going;III)I" } : Jvm.MethodName) ({ cls := "WrongRoom$Ways", name := "seek", desc := "(LWrongRoom$Town;LWrongRoom$Rooms;LWrongRoom$Going;III)I" } : Jvm.MethodName)) ∈ lw_all := lw_g (lw_at lw_m4 231 rfl) rfl
theorem q1062 : (Jvm.Cond.code ({ cls := "WrongRoom$Ways", name := "seek", desc := "(LWrongRoom$Town;LWrongRoom$Rooms;LWrongRoom$Going;III)I" } : Jvm.MethodName) prog_17_method_2_code (7 : Nat) (Option.some Jvm.ClassFile.FieldType.int)) ∈ lw_all := lw_g (lw_at lw_m4 232 rfl) rfl
theorem q1063 : (Jvm.Cond.constant "WrongRoom$Ways" (34 : Nat) (100000000 : Int32)) ∈ lw_all := lw_g (lw_at lw_m4 233 rfl) rfl
theorem q1064 : (Jvm.Cond.methodLink "WrongRoom$Ways" (41 : Nat) ({ cls := "WrongRoom$Ways", name := "comes", desc := "(IIII)V" } : Jvm.MethodName)) ∈ lw_all := lw_g (lw_at lw_m4 234 rfl) rfl
theorem q1065 : (Jvm.Cond.privateMethod ({ cls := "WrongRoom$Ways", name := "comes", desc := "(IIII)V" } : Jvm.MethodName)) ∈ lw_tbl := lw_at lw_m4 235 rfl
theorem q1066 : (Jvm.Cond.instanceMethod ({ cls := "WrongRoom$Ways", name := "comes", desc := "(IIII)V" } : Jvm.MethodName)) ∈ lw_all := lw_g (lw_at lw_m4 236 rfl) rfl
theorem q1067 : (Jvm.Cond.code ({ cls := "WrongRoom$Ways", name := "comes", desc := "(IIII)V" } : Jvm.MethodName) prog_17_method_3_code (6 : Nat) (Option.none : Option Jvm.ClassFile.FieldType)) ∈ lw_all := lw_g (lw_at lw_m4 237 rfl) rfl
theorem q1068 : (Jvm.Cond.methodLink "WrongRoom$Ways" (45 : Nat) ({ cls := "java/lang/System", name := "arraycopy", desc := "(Ljava/lang/Object;ILjava/lang/Object;II)V" } : Jvm.MethodName)) ∈ lw_all := lw_g (lw_at lw_m4 238 rfl) rfl
theorem q1071 : (Jvm.Cond.methodLinkNest "WrongRoom$Ways" (56 : Nat) ({ cls := "WrongRoom", name := "has", desc := "(II)Z" } : Jvm.MethodName) "WrongRoom") ∈ lw_tbl := lw_at lw_m5 1 rfl
theorem q1072 : (Jvm.Cond.methodLink "WrongRoom$Ways" (60 : Nat) ({ cls := "WrongRoom$Going", name := "comes", desc := "(LWrongRoom$Town;LWrongRoom$Rooms;III)I" } : Jvm.MethodName)) ∈ lw_all := lw_g (lw_at lw_m5 2 rfl) rfl
theorem q1098 : (Jvm.Cond.instanceMethod ({ cls := "WrongRoom$Ways", name := "many", desc := "()I" } : Jvm.MethodName)) ∈ lw_all := lw_g (lw_at lw_m5 28 rfl) rfl
theorem q1099 : (Jvm.Cond.selects "WrongRoom$Ways" ({ cls := "WrongRoom$Ways", name := "many", desc := "()I" } : Jvm.MethodName) ({ cls := "WrongRoom$Ways", name := "many", desc := "()I" } : Jvm.MethodName)) ∈ lw_all := lw_g (lw_at lw_m5 29 rfl) rfl
theorem q1100 : (Jvm.Cond.code ({ cls := "WrongRoom$Ways", name := "many", desc := "()I" } : Jvm.MethodName) prog_17_method_4_code (1 : Nat) (Option.some Jvm.ClassFile.FieldType.int)) ∈ lw_all := lw_g (lw_at lw_m5 30 rfl) rfl
theorem q1102 : (Jvm.Cond.instanceMethod ({ cls := "WrongRoom$Ways", name := "at", desc := "(I)I" } : Jvm.MethodName)) ∈ lw_all := lw_g (lw_at lw_m5 32 rfl) rfl
theorem q1103 : (Jvm.Cond.selects "WrongRoom$Ways" ({ cls := "WrongRoom$Ways", name := "at", desc := "(I)I" } : Jvm.MethodName) ({ cls := "WrongRoom$Ways", name := "at", desc := "(I)I" } : Jvm.MethodName)) ∈ lw_all := lw_g (lw_at lw_m5 33 rfl) rfl
theorem q1104 : (Jvm.Cond.code ({ cls := "WrongRoom$Ways", name := "at", desc := "(I)I" } : Jvm.MethodName) prog_17_method_5_code (2 : Nat) (Option.some Jvm.ClassFile.FieldType.int)) ∈ lw_all := lw_g (lw_at lw_m5 34 rfl) rfl
theorem q2172 : (Jvm.Cond.castable "WrongRoom$Ways" "java/lang/Object") ∈ lw_tbl := lw_at lw_m9 142 rfl
theorem in_X5 : ∀ w ∈ wsX50, w ∈ lw_all := lw_in wsX50 [307, 309, 311, 313, 315, 317, 319, 321] (by decide +kernel) (by decide +kernel)
/-! WrongRoom$Going -/
set_option maxRecDepth 100000
def RX6 : String := "WrongRoom$Going"
abbrev cX6_init : ByteArray := prog_5_method_1_code
def yX6_init : MethodName := ⟨RX6, "<init>", "()V"⟩
theorem dX6_init_0 : decode cX6_init 0 = .ok (.aload_n 0, 1) := by decide +kernel
theorem dX6_init_1 : decode cX6_init 1 = .ok (.invokespecial 1, 3) := by decide +kernel
theorem dX6_init_4 : decode cX6_init 4 = .ok (.return_, 1) := by decide +kernel
theorem q119 : (Jvm.Cond.initialized "WrongRoom$Going") ∈ lw_all := lw_g (lw_at lw_m1 9 rfl) rfl
theorem q330 : (Jvm.Cond.instanceMethod ({ cls := "WrongRoom$Going", name := "<init>", desc := "()V" } : Jvm.MethodName)) ∈ lw_all := lw_g (lw_at lw_m1 220 rfl) rfl
theorem q331 : (Jvm.Cond.code ({ cls := "WrongRoom$Going", name := "<init>", desc := "()V" } : Jvm.MethodName) prog_5_method_1_code (1 : Nat) (Option.none : Option Jvm.ClassFile.FieldType)) ∈ lw_all := lw_g (lw_at lw_m1 221 rfl) rfl
theorem q332 : (Jvm.Cond.methodLink "WrongRoom$Going" (1 : Nat) ({ cls := "java/lang/Object", name := "<init>", desc := "()V" } : Jvm.MethodName)) ∈ lw_all := lw_g (lw_at lw_m1 222 rfl) rfl
theorem q1073 : (Jvm.Cond.declares ({ cls := "WrongRoom$Going", name := "comes", desc := "(LWrongRoom$Town;LWrongRoom$Rooms;III)I" } : Jvm.MethodName)) ∈ lw_tbl := lw_at lw_m5 3 rfl
theorem q1074 : (Jvm.Cond.sameMethod "WrongRoom$Going" "WrongRoom$Going" "comes" "(LWrongRoom$Town;LWrongRoom$Rooms;III)I") ∈ lw_all := lw_g (lw_at lw_m5 4 rfl) rfl
/-! WrongRoom$ByStreets -/
set_option maxRecDepth 100000
def RX7 : String := "WrongRoom$ByStreets"
abbrev cX7_init : ByteArray := prog_3_method_1_code
def yX7_init : MethodName := ⟨RX7, "<init>", "()V"⟩
theorem dX7_init_0 : decode cX7_init 0 = .ok (.aload_n 0, 1) := by decide +kernel
theorem dX7_init_1 : decode cX7_init 1 = .ok (.invokespecial 3, 3) := by decide +kernel
theorem dX7_init_4 : decode cX7_init 4 = .ok (.return_, 1) := by decide +kernel
abbrev cX7_comes : ByteArray := prog_3_method_2_code
def yX7_comes : MethodName := ⟨RX7, "comes", "(LWrongRoom$Town;LWrongRoom$Rooms;III)I"⟩
def dkwX7_comes_1 : List UInt8 := [18, 15, 172]
abbrev dktX7_comes_1 : List UInt8 := dkwX7_comes_1 ++ []
def dkwX7_comes_0 : List UInt8 := [43, 29, 21, 4, 182, 0, 9, 158, 0, 16, 21, 5, 43, 29, 21, 4, 182, 0, 9, 96, 167, 0, 5]
abbrev dktX7_comes_0 : List UInt8 := dkwX7_comes_0 ++ dktX7_comes_1
theorem dksX7_comes_0 : cX7_comes.data.toList.drop 0 = dktX7_comes_0 := by decide +kernel
theorem dksX7_comes_1 : cX7_comes.data.toList.drop 23 = dktX7_comes_1 := dk_seg dksX7_comes_0 23 rfl rfl
theorem dX7_comes_0 : decode cX7_comes 0 = .ok (.aload_n 1, 1) := dk_43 (dk_at dksX7_comes_0 0 rfl rfl)
theorem dX7_comes_1 : decode cX7_comes 1 = .ok (.iload_n 3, 1) := dk_29 (dk_at dksX7_comes_0 1 rfl rfl)
theorem dX7_comes_2 : decode cX7_comes 2 = .ok (.iload 4, 2) := dk_21 4 (dk_at dksX7_comes_0 2 rfl rfl)
theorem dX7_comes_4 : decode cX7_comes 4 = .ok (.invokevirtual 9, 3) := dk_182 0 9 (dk_at dksX7_comes_0 4 rfl rfl)
theorem dX7_comes_7 : decode cX7_comes 7 = .ok (.ifCond .le 16, 3) := dk_158 0 16 (dk_at dksX7_comes_0 7 rfl rfl)
theorem dX7_comes_10 : decode cX7_comes 10 = .ok (.iload 5, 2) := dk_21 5 (dk_at dksX7_comes_0 10 rfl rfl)
theorem dX7_comes_12 : decode cX7_comes 12 = .ok (.aload_n 1, 1) := dk_43 (dk_at dksX7_comes_0 12 rfl rfl)
theorem dX7_comes_13 : decode cX7_comes 13 = .ok (.iload_n 3, 1) := dk_29 (dk_at dksX7_comes_0 13 rfl rfl)
theorem dX7_comes_14 : decode cX7_comes 14 = .ok (.iload 4, 2) := dk_21 4 (dk_at dksX7_comes_0 14 rfl rfl)
theorem dX7_comes_16 : decode cX7_comes 16 = .ok (.invokevirtual 9, 3) := dk_182 0 9 (dk_at dksX7_comes_0 16 rfl rfl)
theorem dX7_comes_19 : decode cX7_comes 19 = .ok (.iadd, 1) := dk_96 (dk_at dksX7_comes_0 19 rfl rfl)
theorem dX7_comes_20 : decode cX7_comes 20 = .ok (.goto 5, 3) := dk_167 0 5 (dk_at dksX7_comes_0 20 rfl rfl)
theorem dX7_comes_23 : decode cX7_comes 23 = .ok (.ldc 15, 2) := dk_18 15 (dk_at dksX7_comes_1 0 rfl rfl)
theorem dX7_comes_25 : decode cX7_comes 25 = .ok (.ireturn, 1) := dk_172 (dk_at dksX7_comes_1 2 rfl rfl)
theorem q120 : (Jvm.Cond.initialized "WrongRoom$ByStreets") ∈ lw_all := lw_g (lw_at lw_m1 10 rfl) rfl
theorem q325 : (Jvm.Cond.instantiable "WrongRoom$ByStreets" (0 : Nat)) ∈ lw_all := lw_g (lw_at lw_m1 215 rfl) rfl
theorem q327 : (Jvm.Cond.instanceMethod ({ cls := "WrongRoom$ByStreets", name := "<init>", desc := "()V" } : Jvm.MethodName)) ∈ lw_all := lw_g (lw_at lw_m1 217 rfl) rfl
theorem q328 : (Jvm.Cond.code ({ cls := "WrongRoom$ByStreets", name := "<init>", desc := "()V" } : Jvm.MethodName) prog_3_method_1_code (1 : Nat) (Option.none : Option Jvm.ClassFile.FieldType)) ∈ lw_all := lw_g (lw_at lw_m1 218 rfl) rfl
theorem q329 : (Jvm.Cond.methodLinkNest "WrongRoom$ByStreets" (3 : Nat) ({ cls := "WrongRoom$Going", name := "<init>", desc := "()V" } : Jvm.MethodName) "WrongRoom") ∈ lw_tbl := lw_at lw_m1 219 rfl
theorem q333 : (Jvm.Cond.superclass "WrongRoom$ByStreets" "WrongRoom$Going") ∈ lw_all := lw_g (lw_at lw_m1 223 rfl) rfl
theorem q1079 : (Jvm.Cond.instanceMethod ({ cls := "WrongRoom$ByStreets", name := "comes", desc := "(LWrongRoom$Town;LWrongRoom$Rooms;III)I" } : Jvm.MethodName)) ∈ lw_all := lw_g (lw_at lw_m5 9 rfl) rfl
theorem q1080 : (Jvm.Cond.code ({ cls := "WrongRoom$ByStreets", name := "comes", desc := "(LWrongRoom$Town;LWrongRoom$Rooms;III)I" } : Jvm.MethodName) prog_3_method_2_code (6 : Nat) (Option.some Jvm.ClassFile.FieldType.int)) ∈ lw_all := lw_g (lw_at lw_m5 10 rfl) rfl
theorem q1081 : (Jvm.Cond.methodLink "WrongRoom$ByStreets" (9 : Nat) ({ cls := "WrongRoom$Town", name := "street", desc := "(II)I" } : Jvm.MethodName)) ∈ lw_all := lw_g (lw_at lw_m5 11 rfl) rfl
theorem q1082 : (Jvm.Cond.constant "WrongRoom$ByStreets" (15 : Nat) (100000000 : Int32)) ∈ lw_all := lw_g (lw_at lw_m5 12 rfl) rfl
theorem q1091 : (Jvm.Cond.selects "WrongRoom$ByStreets" ({ cls := "WrongRoom$Going", name := "comes", desc := "(LWrongRoom$Town;LWrongRoom$Rooms;III)I" } : Jvm.MethodName) ({ cls := "WrongRoom$ByStreets", name := "comes", desc := "(LWrongRoom$Town;LWrongRoom$Rooms;III)I" } : Jvm.MethodName)) ∈ lw_all := lw_g (lw_at lw_m5 21 rfl) rfl
theorem q2167 : (Jvm.Cond.sameMethod "WrongRoom$ByStreets" "WrongRoom$ByStreets" "comes" "(LWrongRoom$Town;LWrongRoom$Rooms;III)I") ∈ lw_all := lw_g (lw_at lw_m9 137 rfl) rfl
theorem q2173 : (Jvm.Cond.castable "WrongRoom$ByStreets" "java/lang/Object") ∈ lw_tbl := lw_at lw_m9 143 rfl
/-! WrongRoom$ByAll -/
set_option maxRecDepth 100000
def RX8 : String := "WrongRoom$ByAll"
abbrev cX8_init : ByteArray := prog_2_method_1_code
def yX8_init : MethodName := ⟨RX8, "<init>", "()V"⟩
theorem dX8_init_0 : decode cX8_init 0 = .ok (.aload_n 0, 1) := by decide +kernel
theorem dX8_init_1 : decode cX8_init 1 = .ok (.invokespecial 1, 3) := by decide +kernel
theorem dX8_init_4 : decode cX8_init 4 = .ok (.return_, 1) := by decide +kernel
abbrev cX8_comes : ByteArray := prog_2_method_2_code
def yX8_comes : MethodName := ⟨RX8, "comes", "(LWrongRoom$Town;LWrongRoom$Rooms;III)I"⟩
def dkwX8_comes_1 : List UInt8 := [21, 6, 44, 29, 21, 5, 182, 0, 17, 43, 180, 0, 21, 96, 184, 0, 27, 167, 0, 5, 21, 6, 172]
abbrev dktX8_comes_1 : List UInt8 := dkwX8_comes_1 ++ []
def dkwX8_comes_0 : List UInt8 := [42, 43, 44, 29, 21, 4, 21, 5, 183, 0, 7, 54, 6, 44, 180, 0, 11, 29, 46, 21, 4, 160, 0, 23]
abbrev dktX8_comes_0 : List UInt8 := dkwX8_comes_0 ++ dktX8_comes_1
theorem dksX8_comes_0 : cX8_comes.data.toList.drop 0 = dktX8_comes_0 := by decide +kernel
theorem dksX8_comes_1 : cX8_comes.data.toList.drop 24 = dktX8_comes_1 := dk_seg dksX8_comes_0 24 rfl rfl
theorem dX8_comes_0 : decode cX8_comes 0 = .ok (.aload_n 0, 1) := dk_42 (dk_at dksX8_comes_0 0 rfl rfl)
theorem dX8_comes_1 : decode cX8_comes 1 = .ok (.aload_n 1, 1) := dk_43 (dk_at dksX8_comes_0 1 rfl rfl)
theorem dX8_comes_2 : decode cX8_comes 2 = .ok (.aload_n 2, 1) := dk_44 (dk_at dksX8_comes_0 2 rfl rfl)
theorem dX8_comes_3 : decode cX8_comes 3 = .ok (.iload_n 3, 1) := dk_29 (dk_at dksX8_comes_0 3 rfl rfl)
theorem dX8_comes_4 : decode cX8_comes 4 = .ok (.iload 4, 2) := dk_21 4 (dk_at dksX8_comes_0 4 rfl rfl)
theorem dX8_comes_6 : decode cX8_comes 6 = .ok (.iload 5, 2) := dk_21 5 (dk_at dksX8_comes_0 6 rfl rfl)
theorem dX8_comes_8 : decode cX8_comes 8 = .ok (.invokespecial 7, 3) := dk_183 0 7 (dk_at dksX8_comes_0 8 rfl rfl)
theorem dX8_comes_11 : decode cX8_comes 11 = .ok (.istore 6, 2) := dk_54 6 (dk_at dksX8_comes_0 11 rfl rfl)
theorem dX8_comes_13 : decode cX8_comes 13 = .ok (.aload_n 2, 1) := dk_44 (dk_at dksX8_comes_0 13 rfl rfl)
theorem dX8_comes_14 : decode cX8_comes 14 = .ok (.getfield 11, 3) := dk_180 0 11 (dk_at dksX8_comes_0 14 rfl rfl)
theorem dX8_comes_17 : decode cX8_comes 17 = .ok (.iload_n 3, 1) := dk_29 (dk_at dksX8_comes_0 17 rfl rfl)
theorem dX8_comes_18 : decode cX8_comes 18 = .ok (.iaload, 1) := dk_46 (dk_at dksX8_comes_0 18 rfl rfl)
theorem dX8_comes_19 : decode cX8_comes 19 = .ok (.iload 4, 2) := dk_21 4 (dk_at dksX8_comes_0 19 rfl rfl)
theorem dX8_comes_21 : decode cX8_comes 21 = .ok (.if_icmp .ne 23, 3) := dk_160 0 23 (dk_at dksX8_comes_0 21 rfl rfl)
theorem dX8_comes_24 : decode cX8_comes 24 = .ok (.iload 6, 2) := dk_21 6 (dk_at dksX8_comes_1 0 rfl rfl)
theorem dX8_comes_26 : decode cX8_comes 26 = .ok (.aload_n 2, 1) := dk_44 (dk_at dksX8_comes_1 2 rfl rfl)
theorem dX8_comes_27 : decode cX8_comes 27 = .ok (.iload_n 3, 1) := dk_29 (dk_at dksX8_comes_1 3 rfl rfl)
theorem dX8_comes_28 : decode cX8_comes 28 = .ok (.iload 5, 2) := dk_21 5 (dk_at dksX8_comes_1 4 rfl rfl)
theorem dX8_comes_30 : decode cX8_comes 30 = .ok (.invokevirtual 17, 3) := dk_182 0 17 (dk_at dksX8_comes_1 6 rfl rfl)
theorem dX8_comes_33 : decode cX8_comes 33 = .ok (.aload_n 1, 1) := dk_43 (dk_at dksX8_comes_1 9 rfl rfl)
theorem dX8_comes_34 : decode cX8_comes 34 = .ok (.getfield 21, 3) := dk_180 0 21 (dk_at dksX8_comes_1 10 rfl rfl)
theorem dX8_comes_37 : decode cX8_comes 37 = .ok (.iadd, 1) := dk_96 (dk_at dksX8_comes_1 13 rfl rfl)
theorem dX8_comes_38 : decode cX8_comes 38 = .ok (.invokestatic 27, 3) := dk_184 0 27 (dk_at dksX8_comes_1 14 rfl rfl)
theorem dX8_comes_41 : decode cX8_comes 41 = .ok (.goto 5, 3) := dk_167 0 5 (dk_at dksX8_comes_1 17 rfl rfl)
theorem dX8_comes_44 : decode cX8_comes 44 = .ok (.iload 6, 2) := dk_21 6 (dk_at dksX8_comes_1 20 rfl rfl)
theorem dX8_comes_46 : decode cX8_comes 46 = .ok (.ireturn, 1) := dk_172 (dk_at dksX8_comes_1 22 rfl rfl)
theorem q121 : (Jvm.Cond.initialized "WrongRoom$ByAll") ∈ lw_all := lw_g (lw_at lw_m1 11 rfl) rfl
theorem q271 : (Jvm.Cond.fieldLink "WrongRoom$ByAll" (11 : Nat) "WrongRoom$Rooms" "wrong" "[I") ∈ lw_all := lw_g (lw_at lw_m1 161 rfl) rfl
theorem q335 : (Jvm.Cond.instantiable "WrongRoom$ByAll" (0 : Nat)) ∈ lw_all := lw_g (lw_at lw_m1 225 rfl) rfl
theorem q337 : (Jvm.Cond.instanceMethod ({ cls := "WrongRoom$ByAll", name := "<init>", desc := "()V" } : Jvm.MethodName)) ∈ lw_all := lw_g (lw_at lw_m1 227 rfl) rfl
theorem q338 : (Jvm.Cond.code ({ cls := "WrongRoom$ByAll", name := "<init>", desc := "()V" } : Jvm.MethodName) prog_2_method_1_code (1 : Nat) (Option.none : Option Jvm.ClassFile.FieldType)) ∈ lw_all := lw_g (lw_at lw_m1 228 rfl) rfl
theorem q339 : (Jvm.Cond.methodLinkNest "WrongRoom$ByAll" (1 : Nat) ({ cls := "WrongRoom$ByStreets", name := "<init>", desc := "()V" } : Jvm.MethodName) "WrongRoom") ∈ lw_tbl := lw_at lw_m1 229 rfl
theorem q340 : (Jvm.Cond.superclass "WrongRoom$ByAll" "WrongRoom$ByStreets") ∈ lw_all := lw_g (lw_at lw_m1 230 rfl) rfl
theorem q517 : (Jvm.Cond.fieldLink "WrongRoom$ByAll" (21 : Nat) "WrongRoom$Town" "door" "I") ∈ lw_all := lw_g (lw_at lw_m2 167 rfl) rfl
theorem q1075 : (Jvm.Cond.selects "WrongRoom$ByAll" ({ cls := "WrongRoom$Going", name := "comes", desc := "(LWrongRoom$Town;LWrongRoom$Rooms;III)I" } : Jvm.MethodName) ({ cls := "WrongRoom$ByAll", name := "comes", desc := "(LWrongRoom$Town;LWrongRoom$Rooms;III)I" } : Jvm.MethodName)) ∈ lw_all := lw_g (lw_at lw_m5 5 rfl) rfl
theorem q1076 : (Jvm.Cond.instanceMethod ({ cls := "WrongRoom$ByAll", name := "comes", desc := "(LWrongRoom$Town;LWrongRoom$Rooms;III)I" } : Jvm.MethodName)) ∈ lw_all := lw_g (lw_at lw_m5 6 rfl) rfl
theorem q1077 : (Jvm.Cond.code ({ cls := "WrongRoom$ByAll", name := "comes", desc := "(LWrongRoom$Town;LWrongRoom$Rooms;III)I" } : Jvm.MethodName) prog_2_method_2_code (7 : Nat) (Option.some Jvm.ClassFile.FieldType.int)) ∈ lw_all := lw_g (lw_at lw_m5 7 rfl) rfl
theorem q1078 : (Jvm.Cond.methodLink "WrongRoom$ByAll" (7 : Nat) ({ cls := "WrongRoom$ByStreets", name := "comes", desc := "(LWrongRoom$Town;LWrongRoom$Rooms;III)I" } : Jvm.MethodName)) ∈ lw_all := lw_g (lw_at lw_m5 8 rfl) rfl
theorem q1083 : (Jvm.Cond.methodLink "WrongRoom$ByAll" (17 : Nat) ({ cls := "WrongRoom$Rooms", name := "opens", desc := "(II)I" } : Jvm.MethodName)) ∈ lw_all := lw_g (lw_at lw_m5 13 rfl) rfl
theorem q1088 : (Jvm.Cond.methodLink "WrongRoom$ByAll" (27 : Nat) ({ cls := "java/lang/Math", name := "min", desc := "(II)I" } : Jvm.MethodName)) ∈ lw_all := lw_g (lw_at lw_m5 18 rfl) rfl
theorem q2174 : (Jvm.Cond.castable "WrongRoom$ByAll" "java/lang/Object") ∈ lw_tbl := lw_at lw_m9 144 rfl
/-! WrongRoom$Rows -/
set_option maxRecDepth 100000
def RX9 : String := "WrongRoom$Rows"
def TX9 : u_T := fun k => match k with
  | 0 => ("WrongRoom$Rows", "row", "[I", true)
  | 1 => ("WrongRoom$Rows", "first", "[I", true)
  | 2 => ("WrongRoom$Rows", "could", "[I", true)
  | 3 => ("WrongRoom$Rows", "often", "[I", true)
  | 4 => ("WrongRoom$Rows", "town", "LWrongRoom$Town;", false)
  | 5 => ("WrongRoom$Rows", "rooms", "LWrongRoom$Rooms;", false)
  | _ => ("WrongRoom$Rows", "many", "I", false)
def tyX9 : Nat → FieldType := fun k => match k with
  | 0 => .array .int
  | 1 => .array .int
  | 2 => .array .int
  | 3 => .array .int
  | 4 => .object "WrongRoom$Town"
  | 5 => .object "WrongRoom$Rooms"
  | _ => .int
abbrev wsX90 : List Cond := u_ws RX9 TX9 7
theorem nmX9 : ∀ a, a < 7 → ∀ b, b < 7 → a ≠ b → (TX9 a).2.1 ≠ (TX9 b).2.1 := by decide +kernel
theorem tyX9_ok : ∀ k, k < 7 → parseFieldDescriptor (TX9 k).2.2.1 = some (tyX9 k) := by decide +kernel
abbrev cX9_init : ByteArray := prog_14_method_1_code
def yX9_init : MethodName := ⟨RX9, "<init>", "()V"⟩
def dkwX9_init_1 : List UInt8 := [188, 10, 181, 0, 18, 42, 16, 49, 188, 10, 181, 0, 21, 177]
abbrev dktX9_init_1 : List UInt8 := dkwX9_init_1 ++ []
def dkwX9_init_0 : List UInt8 := [42, 183, 0, 3, 42, 16, 7, 188, 10, 181, 0, 9, 42, 16, 7, 188, 10, 181, 0, 15, 42, 16, 7]
abbrev dktX9_init_0 : List UInt8 := dkwX9_init_0 ++ dktX9_init_1
theorem dksX9_init_0 : cX9_init.data.toList.drop 0 = dktX9_init_0 := by decide +kernel
theorem dksX9_init_1 : cX9_init.data.toList.drop 23 = dktX9_init_1 := dk_seg dksX9_init_0 23 rfl rfl
theorem dX9_init_0 : decode cX9_init 0 = .ok (.aload_n 0, 1) := dk_42 (dk_at dksX9_init_0 0 rfl rfl)
theorem dX9_init_1 : decode cX9_init 1 = .ok (.invokespecial 3, 3) := dk_183 0 3 (dk_at dksX9_init_0 1 rfl rfl)
theorem dX9_init_4 : decode cX9_init 4 = .ok (.aload_n 0, 1) := dk_42 (dk_at dksX9_init_0 4 rfl rfl)
theorem dX9_init_5 : decode cX9_init 5 = .ok (.bipush 7, 2) := dk_16 7 (dk_at dksX9_init_0 5 rfl rfl)
theorem dX9_init_7 : decode cX9_init 7 = .ok (.newarray .int, 2) := dk_188_10 (dk_at dksX9_init_0 7 rfl rfl)
theorem dX9_init_9 : decode cX9_init 9 = .ok (.putfield 9, 3) := dk_181 0 9 (dk_at dksX9_init_0 9 rfl rfl)
theorem dX9_init_12 : decode cX9_init 12 = .ok (.aload_n 0, 1) := dk_42 (dk_at dksX9_init_0 12 rfl rfl)
theorem dX9_init_13 : decode cX9_init 13 = .ok (.bipush 7, 2) := dk_16 7 (dk_at dksX9_init_0 13 rfl rfl)
theorem dX9_init_15 : decode cX9_init 15 = .ok (.newarray .int, 2) := dk_188_10 (dk_at dksX9_init_0 15 rfl rfl)
theorem dX9_init_17 : decode cX9_init 17 = .ok (.putfield 15, 3) := dk_181 0 15 (dk_at dksX9_init_0 17 rfl rfl)
theorem dX9_init_20 : decode cX9_init 20 = .ok (.aload_n 0, 1) := dk_42 (dk_at dksX9_init_0 20 rfl rfl)
theorem dX9_init_21 : decode cX9_init 21 = .ok (.bipush 7, 2) := dk_16 7 (dk_at dksX9_init_0 21 rfl rfl)
theorem dX9_init_23 : decode cX9_init 23 = .ok (.newarray .int, 2) := dk_188_10 (dk_at dksX9_init_1 0 rfl rfl)
theorem dX9_init_25 : decode cX9_init 25 = .ok (.putfield 18, 3) := dk_181 0 18 (dk_at dksX9_init_1 2 rfl rfl)
theorem dX9_init_28 : decode cX9_init 28 = .ok (.aload_n 0, 1) := dk_42 (dk_at dksX9_init_1 5 rfl rfl)
theorem dX9_init_29 : decode cX9_init 29 = .ok (.bipush 49, 2) := dk_16 49 (dk_at dksX9_init_1 6 rfl rfl)
theorem dX9_init_31 : decode cX9_init 31 = .ok (.newarray .int, 2) := dk_188_10 (dk_at dksX9_init_1 8 rfl rfl)
theorem dX9_init_33 : decode cX9_init 33 = .ok (.putfield 21, 3) := dk_181 0 21 (dk_at dksX9_init_1 10 rfl rfl)
theorem dX9_init_36 : decode cX9_init 36 = .ok (.return_, 1) := dk_177 (dk_at dksX9_init_1 13 rfl rfl)
abbrev cX9_seek : ByteArray := prog_14_method_2_code
def yX9_seek : MethodName := ⟨RX9, "seek", "(LWrongRoom$Town;LWrongRoom$Rooms;)V"⟩
def dkwX9_seek_4 : List UInt8 := [3, 29, 182, 0, 46, 177]
abbrev dktX9_seek_4 : List UInt8 := dkwX9_seek_4 ++ []
def dkwX9_seek_3 : List UInt8 := [16, 254, 159, 0, 15, 29, 4, 44, 180, 0, 41, 21, 4, 46, 120, 128, 62, 132, 4, 1, 167, 255, 205, 42]
abbrev dktX9_seek_3 : List UInt8 := dkwX9_seek_3 ++ dktX9_seek_4
def dkwX9_seek_2 : List UInt8 := [42, 180, 0, 18, 21, 4, 3, 79, 21, 4, 43, 180, 0, 36, 162, 0, 27, 44, 180, 0, 41, 21, 4, 46]
abbrev dktX9_seek_2 : List UInt8 := dkwX9_seek_2 ++ dktX9_seek_3
def dkwX9_seek_1 : List UInt8 := [180, 0, 21, 29, 3, 79, 132, 3, 1, 167, 255, 240, 3, 62, 3, 54, 4, 21, 4, 16, 7, 162, 0, 50]
abbrev dktX9_seek_1 : List UInt8 := dkwX9_seek_1 ++ dktX9_seek_2
def dkwX9_seek_0 : List UInt8 := [42, 43, 181, 0, 24, 42, 44, 181, 0, 28, 42, 3, 181, 0, 32, 3, 62, 29, 16, 49, 162, 0, 16, 42]
abbrev dktX9_seek_0 : List UInt8 := dkwX9_seek_0 ++ dktX9_seek_1
theorem dksX9_seek_0 : cX9_seek.data.toList.drop 0 = dktX9_seek_0 := by decide +kernel
theorem dksX9_seek_1 : cX9_seek.data.toList.drop 24 = dktX9_seek_1 := dk_seg dksX9_seek_0 24 rfl rfl
theorem dksX9_seek_2 : cX9_seek.data.toList.drop 48 = dktX9_seek_2 := dk_seg dksX9_seek_1 24 rfl rfl
theorem dksX9_seek_3 : cX9_seek.data.toList.drop 72 = dktX9_seek_3 := dk_seg dksX9_seek_2 24 rfl rfl
theorem dksX9_seek_4 : cX9_seek.data.toList.drop 96 = dktX9_seek_4 := dk_seg dksX9_seek_3 24 rfl rfl
theorem dX9_seek_0 : decode cX9_seek 0 = .ok (.aload_n 0, 1) := dk_42 (dk_at dksX9_seek_0 0 rfl rfl)
theorem dX9_seek_1 : decode cX9_seek 1 = .ok (.aload_n 1, 1) := dk_43 (dk_at dksX9_seek_0 1 rfl rfl)
theorem dX9_seek_2 : decode cX9_seek 2 = .ok (.putfield 24, 3) := dk_181 0 24 (dk_at dksX9_seek_0 2 rfl rfl)
theorem dX9_seek_5 : decode cX9_seek 5 = .ok (.aload_n 0, 1) := dk_42 (dk_at dksX9_seek_0 5 rfl rfl)
theorem dX9_seek_6 : decode cX9_seek 6 = .ok (.aload_n 2, 1) := dk_44 (dk_at dksX9_seek_0 6 rfl rfl)
theorem dX9_seek_7 : decode cX9_seek 7 = .ok (.putfield 28, 3) := dk_181 0 28 (dk_at dksX9_seek_0 7 rfl rfl)
theorem dX9_seek_10 : decode cX9_seek 10 = .ok (.aload_n 0, 1) := dk_42 (dk_at dksX9_seek_0 10 rfl rfl)
theorem dX9_seek_11 : decode cX9_seek 11 = .ok (.iconst 0, 1) := dk_3 (dk_at dksX9_seek_0 11 rfl rfl)
theorem dX9_seek_12 : decode cX9_seek 12 = .ok (.putfield 32, 3) := dk_181 0 32 (dk_at dksX9_seek_0 12 rfl rfl)
theorem dX9_seek_15 : decode cX9_seek 15 = .ok (.iconst 0, 1) := dk_3 (dk_at dksX9_seek_0 15 rfl rfl)
theorem dX9_seek_16 : decode cX9_seek 16 = .ok (.istore_n 3, 1) := dk_62 (dk_at dksX9_seek_0 16 rfl rfl)
theorem dX9_seek_17 : decode cX9_seek 17 = .ok (.iload_n 3, 1) := dk_29 (dk_at dksX9_seek_0 17 rfl rfl)
theorem dX9_seek_18 : decode cX9_seek 18 = .ok (.bipush 49, 2) := dk_16 49 (dk_at dksX9_seek_0 18 rfl rfl)
theorem dX9_seek_20 : decode cX9_seek 20 = .ok (.if_icmp .ge 16, 3) := dk_162 0 16 (dk_at dksX9_seek_0 20 rfl rfl)
theorem dX9_seek_23 : decode cX9_seek 23 = .ok (.aload_n 0, 1) := dk_42 (dk_at dksX9_seek_0 23 rfl rfl)
theorem dX9_seek_24 : decode cX9_seek 24 = .ok (.getfield 21, 3) := dk_180 0 21 (dk_at dksX9_seek_1 0 rfl rfl)
theorem dX9_seek_27 : decode cX9_seek 27 = .ok (.iload_n 3, 1) := dk_29 (dk_at dksX9_seek_1 3 rfl rfl)
theorem dX9_seek_28 : decode cX9_seek 28 = .ok (.iconst 0, 1) := dk_3 (dk_at dksX9_seek_1 4 rfl rfl)
theorem dX9_seek_29 : decode cX9_seek 29 = .ok (.iastore, 1) := dk_79 (dk_at dksX9_seek_1 5 rfl rfl)
theorem dX9_seek_30 : decode cX9_seek 30 = .ok (.iinc 3 1, 3) := dk_132 3 1 (dk_at dksX9_seek_1 6 rfl rfl)
theorem dX9_seek_33 : decode cX9_seek 33 = .ok (.goto (-16), 3) := dk_167 255 240 (dk_at dksX9_seek_1 9 rfl rfl)
theorem dX9_seek_36 : decode cX9_seek 36 = .ok (.iconst 0, 1) := dk_3 (dk_at dksX9_seek_1 12 rfl rfl)
theorem dX9_seek_37 : decode cX9_seek 37 = .ok (.istore_n 3, 1) := dk_62 (dk_at dksX9_seek_1 13 rfl rfl)
theorem dX9_seek_38 : decode cX9_seek 38 = .ok (.iconst 0, 1) := dk_3 (dk_at dksX9_seek_1 14 rfl rfl)
theorem dX9_seek_39 : decode cX9_seek 39 = .ok (.istore 4, 2) := dk_54 4 (dk_at dksX9_seek_1 15 rfl rfl)
theorem dX9_seek_41 : decode cX9_seek 41 = .ok (.iload 4, 2) := dk_21 4 (dk_at dksX9_seek_1 17 rfl rfl)
theorem dX9_seek_43 : decode cX9_seek 43 = .ok (.bipush 7, 2) := dk_16 7 (dk_at dksX9_seek_1 19 rfl rfl)
theorem dX9_seek_45 : decode cX9_seek 45 = .ok (.if_icmp .ge 50, 3) := dk_162 0 50 (dk_at dksX9_seek_1 21 rfl rfl)
theorem dX9_seek_48 : decode cX9_seek 48 = .ok (.aload_n 0, 1) := dk_42 (dk_at dksX9_seek_2 0 rfl rfl)
theorem dX9_seek_49 : decode cX9_seek 49 = .ok (.getfield 18, 3) := dk_180 0 18 (dk_at dksX9_seek_2 1 rfl rfl)
theorem dX9_seek_52 : decode cX9_seek 52 = .ok (.iload 4, 2) := dk_21 4 (dk_at dksX9_seek_2 4 rfl rfl)
theorem dX9_seek_54 : decode cX9_seek 54 = .ok (.iconst 0, 1) := dk_3 (dk_at dksX9_seek_2 6 rfl rfl)
theorem dX9_seek_55 : decode cX9_seek 55 = .ok (.iastore, 1) := dk_79 (dk_at dksX9_seek_2 7 rfl rfl)
theorem dX9_seek_56 : decode cX9_seek 56 = .ok (.iload 4, 2) := dk_21 4 (dk_at dksX9_seek_2 8 rfl rfl)
theorem dX9_seek_58 : decode cX9_seek 58 = .ok (.aload_n 1, 1) := dk_43 (dk_at dksX9_seek_2 10 rfl rfl)
theorem dX9_seek_59 : decode cX9_seek 59 = .ok (.getfield 36, 3) := dk_180 0 36 (dk_at dksX9_seek_2 11 rfl rfl)
theorem dX9_seek_62 : decode cX9_seek 62 = .ok (.if_icmp .ge 27, 3) := dk_162 0 27 (dk_at dksX9_seek_2 14 rfl rfl)
theorem dX9_seek_65 : decode cX9_seek 65 = .ok (.aload_n 2, 1) := dk_44 (dk_at dksX9_seek_2 17 rfl rfl)
theorem dX9_seek_66 : decode cX9_seek 66 = .ok (.getfield 41, 3) := dk_180 0 41 (dk_at dksX9_seek_2 18 rfl rfl)
theorem dX9_seek_69 : decode cX9_seek 69 = .ok (.iload 4, 2) := dk_21 4 (dk_at dksX9_seek_2 21 rfl rfl)
theorem dX9_seek_71 : decode cX9_seek 71 = .ok (.iaload, 1) := dk_46 (dk_at dksX9_seek_2 23 rfl rfl)
theorem dX9_seek_72 : decode cX9_seek 72 = .ok (.bipush (-2), 2) := dk_16 254 (dk_at dksX9_seek_3 0 rfl rfl)
theorem dX9_seek_74 : decode cX9_seek 74 = .ok (.if_icmp .eq 15, 3) := dk_159 0 15 (dk_at dksX9_seek_3 2 rfl rfl)
theorem dX9_seek_77 : decode cX9_seek 77 = .ok (.iload_n 3, 1) := dk_29 (dk_at dksX9_seek_3 5 rfl rfl)
theorem dX9_seek_78 : decode cX9_seek 78 = .ok (.iconst 1, 1) := dk_4 (dk_at dksX9_seek_3 6 rfl rfl)
theorem dX9_seek_79 : decode cX9_seek 79 = .ok (.aload_n 2, 1) := dk_44 (dk_at dksX9_seek_3 7 rfl rfl)
theorem dX9_seek_80 : decode cX9_seek 80 = .ok (.getfield 41, 3) := dk_180 0 41 (dk_at dksX9_seek_3 8 rfl rfl)
theorem dX9_seek_83 : decode cX9_seek 83 = .ok (.iload 4, 2) := dk_21 4 (dk_at dksX9_seek_3 11 rfl rfl)
theorem dX9_seek_85 : decode cX9_seek 85 = .ok (.iaload, 1) := dk_46 (dk_at dksX9_seek_3 13 rfl rfl)
theorem dX9_seek_86 : decode cX9_seek 86 = .ok (.ishl, 1) := dk_120 (dk_at dksX9_seek_3 14 rfl rfl)
theorem dX9_seek_87 : decode cX9_seek 87 = .ok (.ior, 1) := dk_128 (dk_at dksX9_seek_3 15 rfl rfl)
theorem dX9_seek_88 : decode cX9_seek 88 = .ok (.istore_n 3, 1) := dk_62 (dk_at dksX9_seek_3 16 rfl rfl)
theorem dX9_seek_89 : decode cX9_seek 89 = .ok (.iinc 4 1, 3) := dk_132 4 1 (dk_at dksX9_seek_3 17 rfl rfl)
theorem dX9_seek_92 : decode cX9_seek 92 = .ok (.goto (-51), 3) := dk_167 255 205 (dk_at dksX9_seek_3 20 rfl rfl)
theorem dX9_seek_95 : decode cX9_seek 95 = .ok (.aload_n 0, 1) := dk_42 (dk_at dksX9_seek_3 23 rfl rfl)
theorem dX9_seek_96 : decode cX9_seek 96 = .ok (.iconst 0, 1) := dk_3 (dk_at dksX9_seek_4 0 rfl rfl)
theorem dX9_seek_97 : decode cX9_seek 97 = .ok (.iload_n 3, 1) := dk_29 (dk_at dksX9_seek_4 1 rfl rfl)
theorem dX9_seek_98 : decode cX9_seek 98 = .ok (.invokevirtual 46, 3) := dk_182 0 46 (dk_at dksX9_seek_4 2 rfl rfl)
theorem dX9_seek_101 : decode cX9_seek 101 = .ok (.return_, 1) := dk_177 (dk_at dksX9_seek_4 5 rfl rfl)
abbrev cX9_tries : ByteArray := prog_14_method_3_code
def yX9_tries : MethodName := ⟨RX9, "tries", "(II)V"⟩
def dkwX9_tries_4 : List UInt8 := [79, 42, 27, 4, 96, 28, 4, 29, 120, 128, 182, 0, 46, 132, 3, 1, 167, 255, 200, 177]
abbrev dktX9_tries_4 : List UInt8 := dkwX9_tries_4 ++ []
def dkwX9_tries_3 : List UInt8 := [154, 0, 37, 42, 180, 0, 24, 27, 29, 182, 0, 57, 154, 0, 6, 167, 0, 22, 42, 180, 0, 9, 27, 29]
abbrev dktX9_tries_3 : List UInt8 := dkwX9_tries_3 ++ dktX9_tries_4
def dkwX9_tries_2 : List UInt8 := [96, 28, 182, 0, 46, 177, 3, 62, 29, 42, 180, 0, 24, 180, 0, 36, 162, 0, 51, 28, 29, 184, 0, 53]
abbrev dktX9_tries_2 : List UInt8 := dkwX9_tries_2 ++ dktX9_tries_3
def dkwX9_tries_1 : List UInt8 := [46, 16, 254, 159, 0, 27, 42, 180, 0, 9, 27, 42, 180, 0, 28, 180, 0, 41, 27, 46, 79, 42, 27, 4]
abbrev dktX9_tries_1 : List UInt8 := dkwX9_tries_1 ++ dktX9_tries_2
def dkwX9_tries_0 : List UInt8 := [27, 42, 180, 0, 24, 180, 0, 36, 160, 0, 8, 42, 182, 0, 50, 177, 42, 180, 0, 28, 180, 0, 41, 27]
abbrev dktX9_tries_0 : List UInt8 := dkwX9_tries_0 ++ dktX9_tries_1
theorem dksX9_tries_0 : cX9_tries.data.toList.drop 0 = dktX9_tries_0 := by decide +kernel
theorem dksX9_tries_1 : cX9_tries.data.toList.drop 24 = dktX9_tries_1 := dk_seg dksX9_tries_0 24 rfl rfl
theorem dksX9_tries_2 : cX9_tries.data.toList.drop 48 = dktX9_tries_2 := dk_seg dksX9_tries_1 24 rfl rfl
theorem dksX9_tries_3 : cX9_tries.data.toList.drop 72 = dktX9_tries_3 := dk_seg dksX9_tries_2 24 rfl rfl
theorem dksX9_tries_4 : cX9_tries.data.toList.drop 96 = dktX9_tries_4 := dk_seg dksX9_tries_3 24 rfl rfl
theorem dX9_tries_0 : decode cX9_tries 0 = .ok (.iload_n 1, 1) := dk_27 (dk_at dksX9_tries_0 0 rfl rfl)
theorem dX9_tries_1 : decode cX9_tries 1 = .ok (.aload_n 0, 1) := dk_42 (dk_at dksX9_tries_0 1 rfl rfl)
theorem dX9_tries_2 : decode cX9_tries 2 = .ok (.getfield 24, 3) := dk_180 0 24 (dk_at dksX9_tries_0 2 rfl rfl)
theorem dX9_tries_5 : decode cX9_tries 5 = .ok (.getfield 36, 3) := dk_180 0 36 (dk_at dksX9_tries_0 5 rfl rfl)
theorem dX9_tries_8 : decode cX9_tries 8 = .ok (.if_icmp .ne 8, 3) := dk_160 0 8 (dk_at dksX9_tries_0 8 rfl rfl)
theorem dX9_tries_11 : decode cX9_tries 11 = .ok (.aload_n 0, 1) := dk_42 (dk_at dksX9_tries_0 11 rfl rfl)
theorem dX9_tries_12 : decode cX9_tries 12 = .ok (.invokevirtual 50, 3) := dk_182 0 50 (dk_at dksX9_tries_0 12 rfl rfl)
theorem dX9_tries_15 : decode cX9_tries 15 = .ok (.return_, 1) := dk_177 (dk_at dksX9_tries_0 15 rfl rfl)
theorem dX9_tries_16 : decode cX9_tries 16 = .ok (.aload_n 0, 1) := dk_42 (dk_at dksX9_tries_0 16 rfl rfl)
theorem dX9_tries_17 : decode cX9_tries 17 = .ok (.getfield 28, 3) := dk_180 0 28 (dk_at dksX9_tries_0 17 rfl rfl)
theorem dX9_tries_20 : decode cX9_tries 20 = .ok (.getfield 41, 3) := dk_180 0 41 (dk_at dksX9_tries_0 20 rfl rfl)
theorem dX9_tries_23 : decode cX9_tries 23 = .ok (.iload_n 1, 1) := dk_27 (dk_at dksX9_tries_0 23 rfl rfl)
theorem dX9_tries_24 : decode cX9_tries 24 = .ok (.iaload, 1) := dk_46 (dk_at dksX9_tries_1 0 rfl rfl)
theorem dX9_tries_25 : decode cX9_tries 25 = .ok (.bipush (-2), 2) := dk_16 254 (dk_at dksX9_tries_1 1 rfl rfl)
theorem dX9_tries_27 : decode cX9_tries 27 = .ok (.if_icmp .eq 27, 3) := dk_159 0 27 (dk_at dksX9_tries_1 3 rfl rfl)
theorem dX9_tries_30 : decode cX9_tries 30 = .ok (.aload_n 0, 1) := dk_42 (dk_at dksX9_tries_1 6 rfl rfl)
theorem dX9_tries_31 : decode cX9_tries 31 = .ok (.getfield 9, 3) := dk_180 0 9 (dk_at dksX9_tries_1 7 rfl rfl)
theorem dX9_tries_34 : decode cX9_tries 34 = .ok (.iload_n 1, 1) := dk_27 (dk_at dksX9_tries_1 10 rfl rfl)
theorem dX9_tries_35 : decode cX9_tries 35 = .ok (.aload_n 0, 1) := dk_42 (dk_at dksX9_tries_1 11 rfl rfl)
theorem dX9_tries_36 : decode cX9_tries 36 = .ok (.getfield 28, 3) := dk_180 0 28 (dk_at dksX9_tries_1 12 rfl rfl)
theorem dX9_tries_39 : decode cX9_tries 39 = .ok (.getfield 41, 3) := dk_180 0 41 (dk_at dksX9_tries_1 15 rfl rfl)
theorem dX9_tries_42 : decode cX9_tries 42 = .ok (.iload_n 1, 1) := dk_27 (dk_at dksX9_tries_1 18 rfl rfl)
theorem dX9_tries_43 : decode cX9_tries 43 = .ok (.iaload, 1) := dk_46 (dk_at dksX9_tries_1 19 rfl rfl)
theorem dX9_tries_44 : decode cX9_tries 44 = .ok (.iastore, 1) := dk_79 (dk_at dksX9_tries_1 20 rfl rfl)
theorem dX9_tries_45 : decode cX9_tries 45 = .ok (.aload_n 0, 1) := dk_42 (dk_at dksX9_tries_1 21 rfl rfl)
theorem dX9_tries_46 : decode cX9_tries 46 = .ok (.iload_n 1, 1) := dk_27 (dk_at dksX9_tries_1 22 rfl rfl)
theorem dX9_tries_47 : decode cX9_tries 47 = .ok (.iconst 1, 1) := dk_4 (dk_at dksX9_tries_1 23 rfl rfl)
theorem dX9_tries_48 : decode cX9_tries 48 = .ok (.iadd, 1) := dk_96 (dk_at dksX9_tries_2 0 rfl rfl)
theorem dX9_tries_49 : decode cX9_tries 49 = .ok (.iload_n 2, 1) := dk_28 (dk_at dksX9_tries_2 1 rfl rfl)
theorem dX9_tries_50 : decode cX9_tries 50 = .ok (.invokevirtual 46, 3) := dk_182 0 46 (dk_at dksX9_tries_2 2 rfl rfl)
theorem dX9_tries_53 : decode cX9_tries 53 = .ok (.return_, 1) := dk_177 (dk_at dksX9_tries_2 5 rfl rfl)
theorem dX9_tries_54 : decode cX9_tries 54 = .ok (.iconst 0, 1) := dk_3 (dk_at dksX9_tries_2 6 rfl rfl)
theorem dX9_tries_55 : decode cX9_tries 55 = .ok (.istore_n 3, 1) := dk_62 (dk_at dksX9_tries_2 7 rfl rfl)
theorem dX9_tries_56 : decode cX9_tries 56 = .ok (.iload_n 3, 1) := dk_29 (dk_at dksX9_tries_2 8 rfl rfl)
theorem dX9_tries_57 : decode cX9_tries 57 = .ok (.aload_n 0, 1) := dk_42 (dk_at dksX9_tries_2 9 rfl rfl)
theorem dX9_tries_58 : decode cX9_tries 58 = .ok (.getfield 24, 3) := dk_180 0 24 (dk_at dksX9_tries_2 10 rfl rfl)
theorem dX9_tries_61 : decode cX9_tries 61 = .ok (.getfield 36, 3) := dk_180 0 36 (dk_at dksX9_tries_2 13 rfl rfl)
theorem dX9_tries_64 : decode cX9_tries 64 = .ok (.if_icmp .ge 51, 3) := dk_162 0 51 (dk_at dksX9_tries_2 16 rfl rfl)
theorem dX9_tries_67 : decode cX9_tries 67 = .ok (.iload_n 2, 1) := dk_28 (dk_at dksX9_tries_2 19 rfl rfl)
theorem dX9_tries_68 : decode cX9_tries 68 = .ok (.iload_n 3, 1) := dk_29 (dk_at dksX9_tries_2 20 rfl rfl)
theorem dX9_tries_69 : decode cX9_tries 69 = .ok (.invokestatic 53, 3) := dk_184 0 53 (dk_at dksX9_tries_2 21 rfl rfl)
theorem dX9_tries_72 : decode cX9_tries 72 = .ok (.ifCond .ne 37, 3) := dk_154 0 37 (dk_at dksX9_tries_3 0 rfl rfl)
theorem dX9_tries_75 : decode cX9_tries 75 = .ok (.aload_n 0, 1) := dk_42 (dk_at dksX9_tries_3 3 rfl rfl)
theorem dX9_tries_76 : decode cX9_tries 76 = .ok (.getfield 24, 3) := dk_180 0 24 (dk_at dksX9_tries_3 4 rfl rfl)
theorem dX9_tries_79 : decode cX9_tries 79 = .ok (.iload_n 1, 1) := dk_27 (dk_at dksX9_tries_3 7 rfl rfl)
theorem dX9_tries_80 : decode cX9_tries 80 = .ok (.iload_n 3, 1) := dk_29 (dk_at dksX9_tries_3 8 rfl rfl)
theorem dX9_tries_81 : decode cX9_tries 81 = .ok (.invokevirtual 57, 3) := dk_182 0 57 (dk_at dksX9_tries_3 9 rfl rfl)
theorem dX9_tries_84 : decode cX9_tries 84 = .ok (.ifCond .ne 6, 3) := dk_154 0 6 (dk_at dksX9_tries_3 12 rfl rfl)
theorem dX9_tries_87 : decode cX9_tries 87 = .ok (.goto 22, 3) := dk_167 0 22 (dk_at dksX9_tries_3 15 rfl rfl)
theorem dX9_tries_90 : decode cX9_tries 90 = .ok (.aload_n 0, 1) := dk_42 (dk_at dksX9_tries_3 18 rfl rfl)
theorem dX9_tries_91 : decode cX9_tries 91 = .ok (.getfield 9, 3) := dk_180 0 9 (dk_at dksX9_tries_3 19 rfl rfl)
theorem dX9_tries_94 : decode cX9_tries 94 = .ok (.iload_n 1, 1) := dk_27 (dk_at dksX9_tries_3 22 rfl rfl)
theorem dX9_tries_95 : decode cX9_tries 95 = .ok (.iload_n 3, 1) := dk_29 (dk_at dksX9_tries_3 23 rfl rfl)
theorem dX9_tries_96 : decode cX9_tries 96 = .ok (.iastore, 1) := dk_79 (dk_at dksX9_tries_4 0 rfl rfl)
theorem dX9_tries_97 : decode cX9_tries 97 = .ok (.aload_n 0, 1) := dk_42 (dk_at dksX9_tries_4 1 rfl rfl)
theorem dX9_tries_98 : decode cX9_tries 98 = .ok (.iload_n 1, 1) := dk_27 (dk_at dksX9_tries_4 2 rfl rfl)
theorem dX9_tries_99 : decode cX9_tries 99 = .ok (.iconst 1, 1) := dk_4 (dk_at dksX9_tries_4 3 rfl rfl)
theorem dX9_tries_100 : decode cX9_tries 100 = .ok (.iadd, 1) := dk_96 (dk_at dksX9_tries_4 4 rfl rfl)
theorem dX9_tries_101 : decode cX9_tries 101 = .ok (.iload_n 2, 1) := dk_28 (dk_at dksX9_tries_4 5 rfl rfl)
theorem dX9_tries_102 : decode cX9_tries 102 = .ok (.iconst 1, 1) := dk_4 (dk_at dksX9_tries_4 6 rfl rfl)
theorem dX9_tries_103 : decode cX9_tries 103 = .ok (.iload_n 3, 1) := dk_29 (dk_at dksX9_tries_4 7 rfl rfl)
theorem dX9_tries_104 : decode cX9_tries 104 = .ok (.ishl, 1) := dk_120 (dk_at dksX9_tries_4 8 rfl rfl)
theorem dX9_tries_105 : decode cX9_tries 105 = .ok (.ior, 1) := dk_128 (dk_at dksX9_tries_4 9 rfl rfl)
theorem dX9_tries_106 : decode cX9_tries 106 = .ok (.invokevirtual 46, 3) := dk_182 0 46 (dk_at dksX9_tries_4 10 rfl rfl)
theorem dX9_tries_109 : decode cX9_tries 109 = .ok (.iinc 3 1, 3) := dk_132 3 1 (dk_at dksX9_tries_4 13 rfl rfl)
theorem dX9_tries_112 : decode cX9_tries 112 = .ok (.goto (-56), 3) := dk_167 255 200 (dk_at dksX9_tries_4 16 rfl rfl)
theorem dX9_tries_115 : decode cX9_tries 115 = .ok (.return_, 1) := dk_177 (dk_at dksX9_tries_4 19 rfl rfl)
abbrev cX9_note : ByteArray := prog_14_method_4_code
def yX9_note : MethodName := ⟨RX9, "note", "()V"⟩
def dkwX9_note_3 : List UInt8 := [42, 180, 0, 9, 27, 46, 96, 92, 46, 4, 96, 79, 132, 1, 1, 167, 255, 205, 177]
abbrev dktX9_note_3 : List UInt8 := dkwX9_note_3 ++ []
def dkwX9_note_2 : List UInt8 := [180, 0, 18, 27, 92, 46, 4, 42, 180, 0, 9, 27, 46, 120, 128, 79, 42, 180, 0, 21, 16, 7, 27, 104]
abbrev dktX9_note_2 : List UInt8 := dkwX9_note_2 ++ dktX9_note_3
def dkwX9_note_1 : List UInt8 := [180, 0, 32, 4, 96, 181, 0, 32, 3, 60, 27, 42, 180, 0, 24, 180, 0, 36, 162, 0, 46, 42]
abbrev dktX9_note_1 : List UInt8 := dkwX9_note_1 ++ dktX9_note_2
def dkwX9_note_0 : List UInt8 := [42, 180, 0, 32, 154, 0, 18, 42, 180, 0, 9, 3, 42, 180, 0, 15, 3, 16, 7, 184, 0, 60, 42, 89]
abbrev dktX9_note_0 : List UInt8 := dkwX9_note_0 ++ dktX9_note_1
theorem dksX9_note_0 : cX9_note.data.toList.drop 0 = dktX9_note_0 := by decide +kernel
theorem dksX9_note_1 : cX9_note.data.toList.drop 24 = dktX9_note_1 := dk_seg dksX9_note_0 24 rfl rfl
theorem dksX9_note_2 : cX9_note.data.toList.drop 46 = dktX9_note_2 := dk_seg dksX9_note_1 22 rfl rfl
theorem dksX9_note_3 : cX9_note.data.toList.drop 70 = dktX9_note_3 := dk_seg dksX9_note_2 24 rfl rfl
theorem dX9_note_0 : decode cX9_note 0 = .ok (.aload_n 0, 1) := dk_42 (dk_at dksX9_note_0 0 rfl rfl)
theorem dX9_note_1 : decode cX9_note 1 = .ok (.getfield 32, 3) := dk_180 0 32 (dk_at dksX9_note_0 1 rfl rfl)
theorem dX9_note_4 : decode cX9_note 4 = .ok (.ifCond .ne 18, 3) := dk_154 0 18 (dk_at dksX9_note_0 4 rfl rfl)
theorem dX9_note_7 : decode cX9_note 7 = .ok (.aload_n 0, 1) := dk_42 (dk_at dksX9_note_0 7 rfl rfl)
theorem dX9_note_8 : decode cX9_note 8 = .ok (.getfield 9, 3) := dk_180 0 9 (dk_at dksX9_note_0 8 rfl rfl)
theorem dX9_note_11 : decode cX9_note 11 = .ok (.iconst 0, 1) := dk_3 (dk_at dksX9_note_0 11 rfl rfl)
theorem dX9_note_12 : decode cX9_note 12 = .ok (.aload_n 0, 1) := dk_42 (dk_at dksX9_note_0 12 rfl rfl)
theorem dX9_note_13 : decode cX9_note 13 = .ok (.getfield 15, 3) := dk_180 0 15 (dk_at dksX9_note_0 13 rfl rfl)
theorem dX9_note_16 : decode cX9_note 16 = .ok (.iconst 0, 1) := dk_3 (dk_at dksX9_note_0 16 rfl rfl)
theorem dX9_note_17 : decode cX9_note 17 = .ok (.bipush 7, 2) := dk_16 7 (dk_at dksX9_note_0 17 rfl rfl)
theorem dX9_note_19 : decode cX9_note 19 = .ok (.invokestatic 60, 3) := dk_184 0 60 (dk_at dksX9_note_0 19 rfl rfl)
theorem dX9_note_22 : decode cX9_note 22 = .ok (.aload_n 0, 1) := dk_42 (dk_at dksX9_note_0 22 rfl rfl)
theorem dX9_note_23 : decode cX9_note 23 = .ok (.dup, 1) := dk_89 (dk_at dksX9_note_0 23 rfl rfl)
theorem dX9_note_24 : decode cX9_note 24 = .ok (.getfield 32, 3) := dk_180 0 32 (dk_at dksX9_note_1 0 rfl rfl)
theorem dX9_note_27 : decode cX9_note 27 = .ok (.iconst 1, 1) := dk_4 (dk_at dksX9_note_1 3 rfl rfl)
theorem dX9_note_28 : decode cX9_note 28 = .ok (.iadd, 1) := dk_96 (dk_at dksX9_note_1 4 rfl rfl)
theorem dX9_note_29 : decode cX9_note 29 = .ok (.putfield 32, 3) := dk_181 0 32 (dk_at dksX9_note_1 5 rfl rfl)
theorem dX9_note_32 : decode cX9_note 32 = .ok (.iconst 0, 1) := dk_3 (dk_at dksX9_note_1 8 rfl rfl)
theorem dX9_note_33 : decode cX9_note 33 = .ok (.istore_n 1, 1) := dk_60 (dk_at dksX9_note_1 9 rfl rfl)
theorem dX9_note_34 : decode cX9_note 34 = .ok (.iload_n 1, 1) := dk_27 (dk_at dksX9_note_1 10 rfl rfl)
theorem dX9_note_35 : decode cX9_note 35 = .ok (.aload_n 0, 1) := dk_42 (dk_at dksX9_note_1 11 rfl rfl)
theorem dX9_note_36 : decode cX9_note 36 = .ok (.getfield 24, 3) := dk_180 0 24 (dk_at dksX9_note_1 12 rfl rfl)
theorem dX9_note_39 : decode cX9_note 39 = .ok (.getfield 36, 3) := dk_180 0 36 (dk_at dksX9_note_1 15 rfl rfl)
theorem dX9_note_42 : decode cX9_note 42 = .ok (.if_icmp .ge 46, 3) := dk_162 0 46 (dk_at dksX9_note_1 18 rfl rfl)
theorem dX9_note_45 : decode cX9_note 45 = .ok (.aload_n 0, 1) := dk_42 (dk_at dksX9_note_1 21 rfl rfl)
theorem dX9_note_46 : decode cX9_note 46 = .ok (.getfield 18, 3) := dk_180 0 18 (dk_at dksX9_note_2 0 rfl rfl)
theorem dX9_note_49 : decode cX9_note 49 = .ok (.iload_n 1, 1) := dk_27 (dk_at dksX9_note_2 3 rfl rfl)
theorem dX9_note_50 : decode cX9_note 50 = .ok (.dup2, 1) := dk_92 (dk_at dksX9_note_2 4 rfl rfl)
theorem dX9_note_51 : decode cX9_note 51 = .ok (.iaload, 1) := dk_46 (dk_at dksX9_note_2 5 rfl rfl)
theorem dX9_note_52 : decode cX9_note 52 = .ok (.iconst 1, 1) := dk_4 (dk_at dksX9_note_2 6 rfl rfl)
theorem dX9_note_53 : decode cX9_note 53 = .ok (.aload_n 0, 1) := dk_42 (dk_at dksX9_note_2 7 rfl rfl)
theorem dX9_note_54 : decode cX9_note 54 = .ok (.getfield 9, 3) := dk_180 0 9 (dk_at dksX9_note_2 8 rfl rfl)
theorem dX9_note_57 : decode cX9_note 57 = .ok (.iload_n 1, 1) := dk_27 (dk_at dksX9_note_2 11 rfl rfl)
theorem dX9_note_58 : decode cX9_note 58 = .ok (.iaload, 1) := dk_46 (dk_at dksX9_note_2 12 rfl rfl)
theorem dX9_note_59 : decode cX9_note 59 = .ok (.ishl, 1) := dk_120 (dk_at dksX9_note_2 13 rfl rfl)
theorem dX9_note_60 : decode cX9_note 60 = .ok (.ior, 1) := dk_128 (dk_at dksX9_note_2 14 rfl rfl)
theorem dX9_note_61 : decode cX9_note 61 = .ok (.iastore, 1) := dk_79 (dk_at dksX9_note_2 15 rfl rfl)
theorem dX9_note_62 : decode cX9_note 62 = .ok (.aload_n 0, 1) := dk_42 (dk_at dksX9_note_2 16 rfl rfl)
theorem dX9_note_63 : decode cX9_note 63 = .ok (.getfield 21, 3) := dk_180 0 21 (dk_at dksX9_note_2 17 rfl rfl)
theorem dX9_note_66 : decode cX9_note 66 = .ok (.bipush 7, 2) := dk_16 7 (dk_at dksX9_note_2 20 rfl rfl)
theorem dX9_note_68 : decode cX9_note 68 = .ok (.iload_n 1, 1) := dk_27 (dk_at dksX9_note_2 22 rfl rfl)
theorem dX9_note_69 : decode cX9_note 69 = .ok (.imul, 1) := dk_104 (dk_at dksX9_note_2 23 rfl rfl)
theorem dX9_note_70 : decode cX9_note 70 = .ok (.aload_n 0, 1) := dk_42 (dk_at dksX9_note_3 0 rfl rfl)
theorem dX9_note_71 : decode cX9_note 71 = .ok (.getfield 9, 3) := dk_180 0 9 (dk_at dksX9_note_3 1 rfl rfl)
theorem dX9_note_74 : decode cX9_note 74 = .ok (.iload_n 1, 1) := dk_27 (dk_at dksX9_note_3 4 rfl rfl)
theorem dX9_note_75 : decode cX9_note 75 = .ok (.iaload, 1) := dk_46 (dk_at dksX9_note_3 5 rfl rfl)
theorem dX9_note_76 : decode cX9_note 76 = .ok (.iadd, 1) := dk_96 (dk_at dksX9_note_3 6 rfl rfl)
theorem dX9_note_77 : decode cX9_note 77 = .ok (.dup2, 1) := dk_92 (dk_at dksX9_note_3 7 rfl rfl)
theorem dX9_note_78 : decode cX9_note 78 = .ok (.iaload, 1) := dk_46 (dk_at dksX9_note_3 8 rfl rfl)
theorem dX9_note_79 : decode cX9_note 79 = .ok (.iconst 1, 1) := dk_4 (dk_at dksX9_note_3 9 rfl rfl)
theorem dX9_note_80 : decode cX9_note 80 = .ok (.iadd, 1) := dk_96 (dk_at dksX9_note_3 10 rfl rfl)
theorem dX9_note_81 : decode cX9_note 81 = .ok (.iastore, 1) := dk_79 (dk_at dksX9_note_3 11 rfl rfl)
theorem dX9_note_82 : decode cX9_note 82 = .ok (.iinc 1 1, 3) := dk_132 1 1 (dk_at dksX9_note_3 12 rfl rfl)
theorem dX9_note_85 : decode cX9_note 85 = .ok (.goto (-51), 3) := dk_167 255 205 (dk_at dksX9_note_3 15 rfl rfl)
theorem dX9_note_88 : decode cX9_note 88 = .ok (.return_, 1) := dk_177 (dk_at dksX9_note_3 18 rfl rfl)
abbrev cX9_could : ByteArray := prog_14_method_5_code
def yX9_could : MethodName := ⟨RX9, "could", "(I)I"⟩
def dkwX9_could_0 : List UInt8 := [42, 180, 0, 18, 27, 46, 172]
abbrev dktX9_could_0 : List UInt8 := dkwX9_could_0 ++ []
theorem dksX9_could_0 : cX9_could.data.toList.drop 0 = dktX9_could_0 := by decide +kernel
theorem dX9_could_0 : decode cX9_could 0 = .ok (.aload_n 0, 1) := dk_42 (dk_at dksX9_could_0 0 rfl rfl)
theorem dX9_could_1 : decode cX9_could 1 = .ok (.getfield 18, 3) := dk_180 0 18 (dk_at dksX9_could_0 1 rfl rfl)
theorem dX9_could_4 : decode cX9_could 4 = .ok (.iload_n 1, 1) := dk_27 (dk_at dksX9_could_0 4 rfl rfl)
theorem dX9_could_5 : decode cX9_could 5 = .ok (.iaload, 1) := dk_46 (dk_at dksX9_could_0 5 rfl rfl)
theorem dX9_could_6 : decode cX9_could 6 = .ok (.ireturn, 1) := dk_172 (dk_at dksX9_could_0 6 rfl rfl)
abbrev cX9_surely : ByteArray := prog_14_method_6_code
def yX9_surely : MethodName := ⟨RX9, "surely", "(I)I"⟩
def dkwX9_surely_2 : List UInt8 := [172]
abbrev dktX9_surely_2 : List UInt8 := dkwX9_surely_2 ++ []
def dkwX9_surely_1 : List UInt8 := [16, 7, 27, 104, 28, 96, 46, 42, 180, 0, 32, 160, 0, 5, 28, 172, 132, 2, 1, 167, 255, 215, 16, 254]
abbrev dktX9_surely_1 : List UInt8 := dkwX9_surely_1 ++ dktX9_surely_2
def dkwX9_surely_0 : List UInt8 := [3, 61, 28, 42, 180, 0, 24, 180, 0, 36, 162, 0, 36, 42, 180, 0, 32, 158, 0, 29, 42, 180, 0, 21]
abbrev dktX9_surely_0 : List UInt8 := dkwX9_surely_0 ++ dktX9_surely_1
theorem dksX9_surely_0 : cX9_surely.data.toList.drop 0 = dktX9_surely_0 := by decide +kernel
theorem dksX9_surely_1 : cX9_surely.data.toList.drop 24 = dktX9_surely_1 := dk_seg dksX9_surely_0 24 rfl rfl
theorem dksX9_surely_2 : cX9_surely.data.toList.drop 48 = dktX9_surely_2 := dk_seg dksX9_surely_1 24 rfl rfl
theorem dX9_surely_0 : decode cX9_surely 0 = .ok (.iconst 0, 1) := dk_3 (dk_at dksX9_surely_0 0 rfl rfl)
theorem dX9_surely_1 : decode cX9_surely 1 = .ok (.istore_n 2, 1) := dk_61 (dk_at dksX9_surely_0 1 rfl rfl)
theorem dX9_surely_2 : decode cX9_surely 2 = .ok (.iload_n 2, 1) := dk_28 (dk_at dksX9_surely_0 2 rfl rfl)
theorem dX9_surely_3 : decode cX9_surely 3 = .ok (.aload_n 0, 1) := dk_42 (dk_at dksX9_surely_0 3 rfl rfl)
theorem dX9_surely_4 : decode cX9_surely 4 = .ok (.getfield 24, 3) := dk_180 0 24 (dk_at dksX9_surely_0 4 rfl rfl)
theorem dX9_surely_7 : decode cX9_surely 7 = .ok (.getfield 36, 3) := dk_180 0 36 (dk_at dksX9_surely_0 7 rfl rfl)
theorem dX9_surely_10 : decode cX9_surely 10 = .ok (.if_icmp .ge 36, 3) := dk_162 0 36 (dk_at dksX9_surely_0 10 rfl rfl)
theorem dX9_surely_13 : decode cX9_surely 13 = .ok (.aload_n 0, 1) := dk_42 (dk_at dksX9_surely_0 13 rfl rfl)
theorem dX9_surely_14 : decode cX9_surely 14 = .ok (.getfield 32, 3) := dk_180 0 32 (dk_at dksX9_surely_0 14 rfl rfl)
theorem dX9_surely_17 : decode cX9_surely 17 = .ok (.ifCond .le 29, 3) := dk_158 0 29 (dk_at dksX9_surely_0 17 rfl rfl)
theorem dX9_surely_20 : decode cX9_surely 20 = .ok (.aload_n 0, 1) := dk_42 (dk_at dksX9_surely_0 20 rfl rfl)
theorem dX9_surely_21 : decode cX9_surely 21 = .ok (.getfield 21, 3) := dk_180 0 21 (dk_at dksX9_surely_0 21 rfl rfl)
theorem dX9_surely_24 : decode cX9_surely 24 = .ok (.bipush 7, 2) := dk_16 7 (dk_at dksX9_surely_1 0 rfl rfl)
theorem dX9_surely_26 : decode cX9_surely 26 = .ok (.iload_n 1, 1) := dk_27 (dk_at dksX9_surely_1 2 rfl rfl)
theorem dX9_surely_27 : decode cX9_surely 27 = .ok (.imul, 1) := dk_104 (dk_at dksX9_surely_1 3 rfl rfl)
theorem dX9_surely_28 : decode cX9_surely 28 = .ok (.iload_n 2, 1) := dk_28 (dk_at dksX9_surely_1 4 rfl rfl)
theorem dX9_surely_29 : decode cX9_surely 29 = .ok (.iadd, 1) := dk_96 (dk_at dksX9_surely_1 5 rfl rfl)
theorem dX9_surely_30 : decode cX9_surely 30 = .ok (.iaload, 1) := dk_46 (dk_at dksX9_surely_1 6 rfl rfl)
theorem dX9_surely_31 : decode cX9_surely 31 = .ok (.aload_n 0, 1) := dk_42 (dk_at dksX9_surely_1 7 rfl rfl)
theorem dX9_surely_32 : decode cX9_surely 32 = .ok (.getfield 32, 3) := dk_180 0 32 (dk_at dksX9_surely_1 8 rfl rfl)
theorem dX9_surely_35 : decode cX9_surely 35 = .ok (.if_icmp .ne 5, 3) := dk_160 0 5 (dk_at dksX9_surely_1 11 rfl rfl)
theorem dX9_surely_38 : decode cX9_surely 38 = .ok (.iload_n 2, 1) := dk_28 (dk_at dksX9_surely_1 14 rfl rfl)
theorem dX9_surely_39 : decode cX9_surely 39 = .ok (.ireturn, 1) := dk_172 (dk_at dksX9_surely_1 15 rfl rfl)
theorem dX9_surely_40 : decode cX9_surely 40 = .ok (.iinc 2 1, 3) := dk_132 2 1 (dk_at dksX9_surely_1 16 rfl rfl)
theorem dX9_surely_43 : decode cX9_surely 43 = .ok (.goto (-41), 3) := dk_167 255 215 (dk_at dksX9_surely_1 19 rfl rfl)
theorem dX9_surely_46 : decode cX9_surely 46 = .ok (.bipush (-2), 2) := dk_16 254 (dk_at dksX9_surely_1 22 rfl rfl)
theorem dX9_surely_48 : decode cX9_surely 48 = .ok (.ireturn, 1) := dk_172 (dk_at dksX9_surely_2 0 rfl rfl)
abbrev cX9_first : ByteArray := prog_14_method_7_code
def yX9_first : MethodName := ⟨RX9, "first", "(I)I"⟩
def dkwX9_first_0 : List UInt8 := [42, 180, 0, 32, 154, 0, 8, 16, 254, 167, 0, 9, 42, 180, 0, 15, 27, 46, 172]
abbrev dktX9_first_0 : List UInt8 := dkwX9_first_0 ++ []
theorem dksX9_first_0 : cX9_first.data.toList.drop 0 = dktX9_first_0 := by decide +kernel
theorem dX9_first_0 : decode cX9_first 0 = .ok (.aload_n 0, 1) := dk_42 (dk_at dksX9_first_0 0 rfl rfl)
theorem dX9_first_1 : decode cX9_first 1 = .ok (.getfield 32, 3) := dk_180 0 32 (dk_at dksX9_first_0 1 rfl rfl)
theorem dX9_first_4 : decode cX9_first 4 = .ok (.ifCond .ne 8, 3) := dk_154 0 8 (dk_at dksX9_first_0 4 rfl rfl)
theorem dX9_first_7 : decode cX9_first 7 = .ok (.bipush (-2), 2) := dk_16 254 (dk_at dksX9_first_0 7 rfl rfl)
theorem dX9_first_9 : decode cX9_first 9 = .ok (.goto 9, 3) := dk_167 0 9 (dk_at dksX9_first_0 9 rfl rfl)
theorem dX9_first_12 : decode cX9_first 12 = .ok (.aload_n 0, 1) := dk_42 (dk_at dksX9_first_0 12 rfl rfl)
theorem dX9_first_13 : decode cX9_first 13 = .ok (.getfield 15, 3) := dk_180 0 15 (dk_at dksX9_first_0 13 rfl rfl)
theorem dX9_first_16 : decode cX9_first 16 = .ok (.iload_n 1, 1) := dk_27 (dk_at dksX9_first_0 16 rfl rfl)
theorem dX9_first_17 : decode cX9_first 17 = .ok (.iaload, 1) := dk_46 (dk_at dksX9_first_0 17 rfl rfl)
theorem dX9_first_18 : decode cX9_first 18 = .ok (.ireturn, 1) := dk_172 (dk_at dksX9_first_0 18 rfl rfl)
abbrev cX9_leaves : ByteArray := prog_14_method_8_code
def yX9_leaves : MethodName := ⟨RX9, "leaves", "(I)I"⟩
def dkwX9_leaves_1 : List UInt8 := [29, 96, 46, 184, 0, 66, 61, 132, 3, 1, 167, 255, 226, 28, 172]
abbrev dktX9_leaves_1 : List UInt8 := dkwX9_leaves_1 ++ []
def dkwX9_leaves_0 : List UInt8 := [3, 61, 3, 62, 29, 42, 180, 0, 24, 180, 0, 36, 162, 0, 25, 28, 42, 180, 0, 21, 16, 7, 27, 104]
abbrev dktX9_leaves_0 : List UInt8 := dkwX9_leaves_0 ++ dktX9_leaves_1
theorem dksX9_leaves_0 : cX9_leaves.data.toList.drop 0 = dktX9_leaves_0 := by decide +kernel
theorem dksX9_leaves_1 : cX9_leaves.data.toList.drop 24 = dktX9_leaves_1 := dk_seg dksX9_leaves_0 24 rfl rfl
theorem dX9_leaves_0 : decode cX9_leaves 0 = .ok (.iconst 0, 1) := dk_3 (dk_at dksX9_leaves_0 0 rfl rfl)
theorem dX9_leaves_1 : decode cX9_leaves 1 = .ok (.istore_n 2, 1) := dk_61 (dk_at dksX9_leaves_0 1 rfl rfl)
theorem dX9_leaves_2 : decode cX9_leaves 2 = .ok (.iconst 0, 1) := dk_3 (dk_at dksX9_leaves_0 2 rfl rfl)
theorem dX9_leaves_3 : decode cX9_leaves 3 = .ok (.istore_n 3, 1) := dk_62 (dk_at dksX9_leaves_0 3 rfl rfl)
theorem dX9_leaves_4 : decode cX9_leaves 4 = .ok (.iload_n 3, 1) := dk_29 (dk_at dksX9_leaves_0 4 rfl rfl)
theorem dX9_leaves_5 : decode cX9_leaves 5 = .ok (.aload_n 0, 1) := dk_42 (dk_at dksX9_leaves_0 5 rfl rfl)
theorem dX9_leaves_6 : decode cX9_leaves 6 = .ok (.getfield 24, 3) := dk_180 0 24 (dk_at dksX9_leaves_0 6 rfl rfl)
theorem dX9_leaves_9 : decode cX9_leaves 9 = .ok (.getfield 36, 3) := dk_180 0 36 (dk_at dksX9_leaves_0 9 rfl rfl)
theorem dX9_leaves_12 : decode cX9_leaves 12 = .ok (.if_icmp .ge 25, 3) := dk_162 0 25 (dk_at dksX9_leaves_0 12 rfl rfl)
theorem dX9_leaves_15 : decode cX9_leaves 15 = .ok (.iload_n 2, 1) := dk_28 (dk_at dksX9_leaves_0 15 rfl rfl)
theorem dX9_leaves_16 : decode cX9_leaves 16 = .ok (.aload_n 0, 1) := dk_42 (dk_at dksX9_leaves_0 16 rfl rfl)
theorem dX9_leaves_17 : decode cX9_leaves 17 = .ok (.getfield 21, 3) := dk_180 0 21 (dk_at dksX9_leaves_0 17 rfl rfl)
theorem dX9_leaves_20 : decode cX9_leaves 20 = .ok (.bipush 7, 2) := dk_16 7 (dk_at dksX9_leaves_0 20 rfl rfl)
theorem dX9_leaves_22 : decode cX9_leaves 22 = .ok (.iload_n 1, 1) := dk_27 (dk_at dksX9_leaves_0 22 rfl rfl)
theorem dX9_leaves_23 : decode cX9_leaves 23 = .ok (.imul, 1) := dk_104 (dk_at dksX9_leaves_0 23 rfl rfl)
theorem dX9_leaves_24 : decode cX9_leaves 24 = .ok (.iload_n 3, 1) := dk_29 (dk_at dksX9_leaves_1 0 rfl rfl)
theorem dX9_leaves_25 : decode cX9_leaves 25 = .ok (.iadd, 1) := dk_96 (dk_at dksX9_leaves_1 1 rfl rfl)
theorem dX9_leaves_26 : decode cX9_leaves 26 = .ok (.iaload, 1) := dk_46 (dk_at dksX9_leaves_1 2 rfl rfl)
theorem dX9_leaves_27 : decode cX9_leaves 27 = .ok (.invokestatic 66, 3) := dk_184 0 66 (dk_at dksX9_leaves_1 3 rfl rfl)
theorem dX9_leaves_30 : decode cX9_leaves 30 = .ok (.istore_n 2, 1) := dk_61 (dk_at dksX9_leaves_1 6 rfl rfl)
theorem dX9_leaves_31 : decode cX9_leaves 31 = .ok (.iinc 3 1, 3) := dk_132 3 1 (dk_at dksX9_leaves_1 7 rfl rfl)
theorem dX9_leaves_34 : decode cX9_leaves 34 = .ok (.goto (-30), 3) := dk_167 255 226 (dk_at dksX9_leaves_1 10 rfl rfl)
theorem dX9_leaves_37 : decode cX9_leaves 37 = .ok (.iload_n 2, 1) := dk_28 (dk_at dksX9_leaves_1 13 rfl rfl)
theorem dX9_leaves_38 : decode cX9_leaves 38 = .ok (.ireturn, 1) := dk_172 (dk_at dksX9_leaves_1 14 rfl rfl)
theorem q122 : (Jvm.Cond.initialized "WrongRoom$Rows") ∈ lw_all := lw_g (lw_at lw_m1 12 rfl) rfl
theorem q272 : (Jvm.Cond.fieldLink "WrongRoom$Rows" (41 : Nat) "WrongRoom$Rooms" "wrong" "[I") ∈ lw_all := lw_g (lw_at lw_m1 162 rfl) rfl
theorem q342 : (Jvm.Cond.instantiable "WrongRoom$Rows" (7 : Nat)) ∈ lw_all := lw_g (lw_at lw_m1 232 rfl) rfl
theorem q344 : (Jvm.Cond.instanceMethod ({ cls := "WrongRoom$Rows", name := "<init>", desc := "()V" } : Jvm.MethodName)) ∈ lw_all := lw_g (lw_at lw_m1 234 rfl) rfl
theorem q345 : (Jvm.Cond.code ({ cls := "WrongRoom$Rows", name := "<init>", desc := "()V" } : Jvm.MethodName) prog_14_method_1_code (1 : Nat) (Option.none : Option Jvm.ClassFile.FieldType)) ∈ lw_all := lw_g (lw_at lw_m1 235 rfl) rfl
theorem q346 : (Jvm.Cond.methodLink "WrongRoom$Rows" (3 : Nat) ({ cls := "java/lang/Object", name := "<init>", desc := "()V" } : Jvm.MethodName)) ∈ lw_all := lw_g (lw_at lw_m1 236 rfl) rfl
theorem q347 : (Jvm.Cond.fieldLink "WrongRoom$Rows" (9 : Nat) "WrongRoom$Rows" "row" "[I") ∈ lw_all := lw_g (lw_at lw_m1 237 rfl) rfl
theorem q348 : (Jvm.Cond.fieldLink "WrongRoom$Rows" (15 : Nat) "WrongRoom$Rows" "first" "[I") ∈ lw_all := lw_g (lw_at lw_m1 238 rfl) rfl
theorem q349 : (Jvm.Cond.fieldLink "WrongRoom$Rows" (18 : Nat) "WrongRoom$Rows" "could" "[I") ∈ lw_all := lw_g (lw_at lw_m1 239 rfl) rfl
theorem q350 : (Jvm.Cond.fieldLink "WrongRoom$Rows" (21 : Nat) "WrongRoom$Rows" "often" "[I") ∈ lw_all := lw_g (lw_at lw_m2 0 rfl) rfl
theorem q351 : (Jvm.Cond.fieldLink "WrongRoom$Rows" (24 : Nat) "WrongRoom$Rows" "town" "LWrongRoom$Town;") ∈ lw_all := lw_g (lw_at lw_m2 1 rfl) rfl
theorem q352 : (Jvm.Cond.fieldLink "WrongRoom$Rows" (28 : Nat) "WrongRoom$Rows" "rooms" "LWrongRoom$Rooms;") ∈ lw_all := lw_g (lw_at lw_m2 2 rfl) rfl
theorem q353 : (Jvm.Cond.fieldLink "WrongRoom$Rows" (32 : Nat) "WrongRoom$Rows" "many" "I") ∈ lw_all := lw_g (lw_at lw_m2 3 rfl) rfl
theorem q355 : (Jvm.Cond.laysFinal "WrongRoom$Rows" "WrongRoom$Rows" "row" "[I") ∈ lw_all := lw_g (lw_at lw_m2 5 rfl) rfl
theorem q356 : (Jvm.Cond.soleField "WrongRoom$Rows" "row") ∈ lw_all := lw_g (lw_at lw_m2 6 rfl) rfl
theorem q357 : (Jvm.Cond.laysFinal "WrongRoom$Rows" "WrongRoom$Rows" "first" "[I") ∈ lw_all := lw_g (lw_at lw_m2 7 rfl) rfl
theorem q358 : (Jvm.Cond.soleField "WrongRoom$Rows" "first") ∈ lw_all := lw_g (lw_at lw_m2 8 rfl) rfl
theorem q359 : (Jvm.Cond.laysFinal "WrongRoom$Rows" "WrongRoom$Rows" "could" "[I") ∈ lw_all := lw_g (lw_at lw_m2 9 rfl) rfl
theorem q360 : (Jvm.Cond.soleField "WrongRoom$Rows" "could") ∈ lw_all := lw_g (lw_at lw_m2 10 rfl) rfl
theorem q361 : (Jvm.Cond.laysFinal "WrongRoom$Rows" "WrongRoom$Rows" "often" "[I") ∈ lw_all := lw_g (lw_at lw_m2 11 rfl) rfl
theorem q362 : (Jvm.Cond.soleField "WrongRoom$Rows" "often") ∈ lw_all := lw_g (lw_at lw_m2 12 rfl) rfl
theorem q363 : (Jvm.Cond.lays "WrongRoom$Rows" "WrongRoom$Rows" "town" "LWrongRoom$Town;") ∈ lw_all := lw_g (lw_at lw_m2 13 rfl) rfl
theorem q364 : (Jvm.Cond.soleField "WrongRoom$Rows" "town") ∈ lw_all := lw_g (lw_at lw_m2 14 rfl) rfl
theorem q365 : (Jvm.Cond.lays "WrongRoom$Rows" "WrongRoom$Rows" "rooms" "LWrongRoom$Rooms;") ∈ lw_all := lw_g (lw_at lw_m2 15 rfl) rfl
theorem q366 : (Jvm.Cond.soleField "WrongRoom$Rows" "rooms") ∈ lw_all := lw_g (lw_at lw_m2 16 rfl) rfl
theorem q367 : (Jvm.Cond.lays "WrongRoom$Rows" "WrongRoom$Rows" "many" "I") ∈ lw_all := lw_g (lw_at lw_m2 17 rfl) rfl
theorem q368 : (Jvm.Cond.soleField "WrongRoom$Rows" "many") ∈ lw_all := lw_g (lw_at lw_m2 18 rfl) rfl
theorem q369 : (Jvm.Cond.superclass "WrongRoom$Rows" "java/lang/Object") ∈ lw_all := lw_g (lw_at lw_m2 19 rfl) rfl
theorem q525 : (Jvm.Cond.fieldLink "WrongRoom$Rows" (36 : Nat) "WrongRoom$Town" "houseMany" "I") ∈ lw_all := lw_g (lw_at lw_m2 175 rfl) rfl
theorem q1122 : (Jvm.Cond.instanceMethod ({ cls := "WrongRoom$Rows", name := "seek", desc := "(LWrongRoom$Town;LWrongRoom$Rooms;)V" } : Jvm.MethodName)) ∈ lw_all := lw_g (lw_at lw_m5 52 rfl) rfl
theorem q1123 : (Jvm.Cond.selects "WrongRoom$Rows" ({ cls := "WrongRoom$Rows", name := "seek", desc := "(LWrongRoom$Town;LWrongRoom$Rooms;)V" } : Jvm.MethodName) ({ cls := "WrongRoom$Rows", name := "seek", desc := "(LWrongRoom$Town;LWrongRoom$Rooms;)V" } : Jvm.MethodName)) ∈ lw_all := lw_g (lw_at lw_m5 53 rfl) rfl
theorem q1124 : (Jvm.Cond.code ({ cls := "WrongRoom$Rows", name := "seek", desc := "(LWrongRoom$Town;LWrongRoom$Rooms;)V" } : Jvm.MethodName) prog_14_method_2_code (5 : Nat) (Option.none : Option Jvm.ClassFile.FieldType)) ∈ lw_all := lw_g (lw_at lw_m5 54 rfl) rfl
theorem q1125 : (Jvm.Cond.methodLink "WrongRoom$Rows" (46 : Nat) ({ cls := "WrongRoom$Rows", name := "tries", desc := "(II)V" } : Jvm.MethodName)) ∈ lw_all := lw_g (lw_at lw_m5 55 rfl) rfl
theorem q1126 : (Jvm.Cond.privateMethod ({ cls := "WrongRoom$Rows", name := "tries", desc := "(II)V" } : Jvm.MethodName)) ∈ lw_tbl := lw_at lw_m5 56 rfl
theorem q1127 : (Jvm.Cond.instanceMethod ({ cls := "WrongRoom$Rows", name := "tries", desc := "(II)V" } : Jvm.MethodName)) ∈ lw_all := lw_g (lw_at lw_m5 57 rfl) rfl
theorem q1128 : (Jvm.Cond.code ({ cls := "WrongRoom$Rows", name := "tries", desc := "(II)V" } : Jvm.MethodName) prog_14_method_3_code (4 : Nat) (Option.none : Option Jvm.ClassFile.FieldType)) ∈ lw_all := lw_g (lw_at lw_m5 58 rfl) rfl
theorem q1129 : (Jvm.Cond.methodLink "WrongRoom$Rows" (50 : Nat) ({ cls := "WrongRoom$Rows", name := "note", desc := "()V" } : Jvm.MethodName)) ∈ lw_all := lw_g (lw_at lw_m5 59 rfl) rfl
theorem q1130 : (Jvm.Cond.privateMethod ({ cls := "WrongRoom$Rows", name := "note", desc := "()V" } : Jvm.MethodName)) ∈ lw_tbl := lw_at lw_m5 60 rfl
theorem q1131 : (Jvm.Cond.instanceMethod ({ cls := "WrongRoom$Rows", name := "note", desc := "()V" } : Jvm.MethodName)) ∈ lw_all := lw_g (lw_at lw_m5 61 rfl) rfl
theorem q1132 : (Jvm.Cond.code ({ cls := "WrongRoom$Rows", name := "note", desc := "()V" } : Jvm.MethodName) prog_14_method_4_code (2 : Nat) (Option.none : Option Jvm.ClassFile.FieldType)) ∈ lw_all := lw_g (lw_at lw_m5 62 rfl) rfl
theorem q1133 : (Jvm.Cond.methodLink "WrongRoom$Rows" (60 : Nat) ({ cls := "java/lang/System", name := "arraycopy", desc := "(Ljava/lang/Object;ILjava/lang/Object;II)V" } : Jvm.MethodName)) ∈ lw_all := lw_g (lw_at lw_m5 63 rfl) rfl
theorem q1134 : (Jvm.Cond.methodLinkNest "WrongRoom$Rows" (53 : Nat) ({ cls := "WrongRoom", name := "has", desc := "(II)Z" } : Jvm.MethodName) "WrongRoom") ∈ lw_tbl := lw_at lw_m5 64 rfl
theorem q1135 : (Jvm.Cond.methodLink "WrongRoom$Rows" (57 : Nat) ({ cls := "WrongRoom$Town", name := "mayBe", desc := "(II)Z" } : Jvm.MethodName)) ∈ lw_all := lw_g (lw_at lw_m5 65 rfl) rfl
theorem q1146 : (Jvm.Cond.instanceMethod ({ cls := "WrongRoom$Rows", name := "could", desc := "(I)I" } : Jvm.MethodName)) ∈ lw_all := lw_g (lw_at lw_m5 76 rfl) rfl
theorem q1147 : (Jvm.Cond.selects "WrongRoom$Rows" ({ cls := "WrongRoom$Rows", name := "could", desc := "(I)I" } : Jvm.MethodName) ({ cls := "WrongRoom$Rows", name := "could", desc := "(I)I" } : Jvm.MethodName)) ∈ lw_all := lw_g (lw_at lw_m5 77 rfl) rfl
theorem q1148 : (Jvm.Cond.code ({ cls := "WrongRoom$Rows", name := "could", desc := "(I)I" } : Jvm.MethodName) prog_14_method_5_code (2 : Nat) (Option.some Jvm.ClassFile.FieldType.int)) ∈ lw_all := lw_g (lw_at lw_m5 78 rfl) rfl
theorem q1154 : (Jvm.Cond.instanceMethod ({ cls := "WrongRoom$Rows", name := "surely", desc := "(I)I" } : Jvm.MethodName)) ∈ lw_all := lw_g (lw_at lw_m5 84 rfl) rfl
theorem q1155 : (Jvm.Cond.selects "WrongRoom$Rows" ({ cls := "WrongRoom$Rows", name := "surely", desc := "(I)I" } : Jvm.MethodName) ({ cls := "WrongRoom$Rows", name := "surely", desc := "(I)I" } : Jvm.MethodName)) ∈ lw_all := lw_g (lw_at lw_m5 85 rfl) rfl
theorem q1156 : (Jvm.Cond.code ({ cls := "WrongRoom$Rows", name := "surely", desc := "(I)I" } : Jvm.MethodName) prog_14_method_6_code (3 : Nat) (Option.some Jvm.ClassFile.FieldType.int)) ∈ lw_all := lw_g (lw_at lw_m5 86 rfl) rfl
theorem q1162 : (Jvm.Cond.instanceMethod ({ cls := "WrongRoom$Rows", name := "first", desc := "(I)I" } : Jvm.MethodName)) ∈ lw_all := lw_g (lw_at lw_m5 92 rfl) rfl
theorem q1163 : (Jvm.Cond.selects "WrongRoom$Rows" ({ cls := "WrongRoom$Rows", name := "first", desc := "(I)I" } : Jvm.MethodName) ({ cls := "WrongRoom$Rows", name := "first", desc := "(I)I" } : Jvm.MethodName)) ∈ lw_all := lw_g (lw_at lw_m5 93 rfl) rfl
theorem q1164 : (Jvm.Cond.code ({ cls := "WrongRoom$Rows", name := "first", desc := "(I)I" } : Jvm.MethodName) prog_14_method_7_code (2 : Nat) (Option.some Jvm.ClassFile.FieldType.int)) ∈ lw_all := lw_g (lw_at lw_m5 94 rfl) rfl
theorem q1174 : (Jvm.Cond.instanceMethod ({ cls := "WrongRoom$Rows", name := "leaves", desc := "(I)I" } : Jvm.MethodName)) ∈ lw_all := lw_g (lw_at lw_m5 104 rfl) rfl
theorem q1175 : (Jvm.Cond.selects "WrongRoom$Rows" ({ cls := "WrongRoom$Rows", name := "leaves", desc := "(I)I" } : Jvm.MethodName) ({ cls := "WrongRoom$Rows", name := "leaves", desc := "(I)I" } : Jvm.MethodName)) ∈ lw_all := lw_g (lw_at lw_m5 105 rfl) rfl
theorem q1176 : (Jvm.Cond.code ({ cls := "WrongRoom$Rows", name := "leaves", desc := "(I)I" } : Jvm.MethodName) prog_14_method_8_code (4 : Nat) (Option.some Jvm.ClassFile.FieldType.int)) ∈ lw_all := lw_g (lw_at lw_m5 106 rfl) rfl
theorem q1177 : (Jvm.Cond.methodLink "WrongRoom$Rows" (66 : Nat) ({ cls := "java/lang/Math", name := "max", desc := "(II)I" } : Jvm.MethodName)) ∈ lw_all := lw_g (lw_at lw_m5 107 rfl) rfl
theorem q2175 : (Jvm.Cond.castable "WrongRoom$Rows" "java/lang/Object") ∈ lw_tbl := lw_at lw_m9 145 rfl
theorem in_X9 : ∀ w ∈ wsX90, w ∈ lw_all := lw_in wsX90 [355, 357, 359, 361, 363, 365, 367] (by decide +kernel) (by decide +kernel)
/-! WrongRoom$Exchanges -/
set_option maxRecDepth 100000
def RX10 : String := "WrongRoom$Exchanges"
def TX10 : u_T := fun k => match k with
  | 0 => ("WrongRoom$Exchanges", "rooms", "[LWrongRoom$Rooms;", true)
  | 1 => ("WrongRoom$Exchanges", "row", "[I", true)
  | 2 => ("WrongRoom$Exchanges", "best", "[I", true)
  | 3 => ("WrongRoom$Exchanges", "town", "LWrongRoom$Town;", false)
  | 4 => ("WrongRoom$Exchanges", "paired", "I", false)
  | _ => ("WrongRoom$Exchanges", "many", "I", false)
def tyX10 : Nat → FieldType := fun k => match k with
  | 0 => .array (.object "WrongRoom$Rooms")
  | 1 => .array .int
  | 2 => .array .int
  | 3 => .object "WrongRoom$Town"
  | 4 => .int
  | _ => .int
abbrev wsX100 : List Cond := u_ws RX10 TX10 6
theorem nmX10 : ∀ a, a < 6 → ∀ b, b < 6 → a ≠ b → (TX10 a).2.1 ≠ (TX10 b).2.1 := by decide +kernel
theorem tyX10_ok : ∀ k, k < 6 → parseFieldDescriptor (TX10 k).2.2.1 = some (tyX10 k) := by decide +kernel
abbrev cX10_init : ByteArray := prog_4_method_1_code
def yX10_init : MethodName := ⟨RX10, "<init>", "()V"⟩
def dkwX10_init_2 : List UInt8 := [132, 1, 1, 167, 255, 235, 177]
abbrev dktX10_init_2 : List UInt8 := dkwX10_init_2 ++ []
def dkwX10_init_1 : List UInt8 := [181, 0, 21, 3, 60, 27, 6, 163, 0, 22, 42, 180, 0, 11, 27, 187, 0, 9, 89, 183, 0, 24, 83]
abbrev dktX10_init_1 : List UInt8 := dkwX10_init_1 ++ dktX10_init_2
def dkwX10_init_0 : List UInt8 := [42, 183, 0, 3, 42, 7, 189, 0, 9, 181, 0, 11, 42, 6, 188, 10, 181, 0, 17, 42, 6, 188, 10]
abbrev dktX10_init_0 : List UInt8 := dkwX10_init_0 ++ dktX10_init_1
theorem dksX10_init_0 : cX10_init.data.toList.drop 0 = dktX10_init_0 := by decide +kernel
theorem dksX10_init_1 : cX10_init.data.toList.drop 23 = dktX10_init_1 := dk_seg dksX10_init_0 23 rfl rfl
theorem dksX10_init_2 : cX10_init.data.toList.drop 46 = dktX10_init_2 := dk_seg dksX10_init_1 23 rfl rfl
theorem dX10_init_0 : decode cX10_init 0 = .ok (.aload_n 0, 1) := dk_42 (dk_at dksX10_init_0 0 rfl rfl)
theorem dX10_init_1 : decode cX10_init 1 = .ok (.invokespecial 3, 3) := dk_183 0 3 (dk_at dksX10_init_0 1 rfl rfl)
theorem dX10_init_4 : decode cX10_init 4 = .ok (.aload_n 0, 1) := dk_42 (dk_at dksX10_init_0 4 rfl rfl)
theorem dX10_init_5 : decode cX10_init 5 = .ok (.iconst 4, 1) := dk_7 (dk_at dksX10_init_0 5 rfl rfl)
theorem dX10_init_6 : decode cX10_init 6 = .ok (.anewarray 9, 3) := dk_189 0 9 (dk_at dksX10_init_0 6 rfl rfl)
theorem dX10_init_9 : decode cX10_init 9 = .ok (.putfield 11, 3) := dk_181 0 11 (dk_at dksX10_init_0 9 rfl rfl)
theorem dX10_init_12 : decode cX10_init 12 = .ok (.aload_n 0, 1) := dk_42 (dk_at dksX10_init_0 12 rfl rfl)
theorem dX10_init_13 : decode cX10_init 13 = .ok (.iconst 3, 1) := dk_6 (dk_at dksX10_init_0 13 rfl rfl)
theorem dX10_init_14 : decode cX10_init 14 = .ok (.newarray .int, 2) := dk_188_10 (dk_at dksX10_init_0 14 rfl rfl)
theorem dX10_init_16 : decode cX10_init 16 = .ok (.putfield 17, 3) := dk_181 0 17 (dk_at dksX10_init_0 16 rfl rfl)
theorem dX10_init_19 : decode cX10_init 19 = .ok (.aload_n 0, 1) := dk_42 (dk_at dksX10_init_0 19 rfl rfl)
theorem dX10_init_20 : decode cX10_init 20 = .ok (.iconst 3, 1) := dk_6 (dk_at dksX10_init_0 20 rfl rfl)
theorem dX10_init_21 : decode cX10_init 21 = .ok (.newarray .int, 2) := dk_188_10 (dk_at dksX10_init_0 21 rfl rfl)
theorem dX10_init_23 : decode cX10_init 23 = .ok (.putfield 21, 3) := dk_181 0 21 (dk_at dksX10_init_1 0 rfl rfl)
theorem dX10_init_26 : decode cX10_init 26 = .ok (.iconst 0, 1) := dk_3 (dk_at dksX10_init_1 3 rfl rfl)
theorem dX10_init_27 : decode cX10_init 27 = .ok (.istore_n 1, 1) := dk_60 (dk_at dksX10_init_1 4 rfl rfl)
theorem dX10_init_28 : decode cX10_init 28 = .ok (.iload_n 1, 1) := dk_27 (dk_at dksX10_init_1 5 rfl rfl)
theorem dX10_init_29 : decode cX10_init 29 = .ok (.iconst 3, 1) := dk_6 (dk_at dksX10_init_1 6 rfl rfl)
theorem dX10_init_30 : decode cX10_init 30 = .ok (.if_icmp .gt 22, 3) := dk_163 0 22 (dk_at dksX10_init_1 7 rfl rfl)
theorem dX10_init_33 : decode cX10_init 33 = .ok (.aload_n 0, 1) := dk_42 (dk_at dksX10_init_1 10 rfl rfl)
theorem dX10_init_34 : decode cX10_init 34 = .ok (.getfield 11, 3) := dk_180 0 11 (dk_at dksX10_init_1 11 rfl rfl)
theorem dX10_init_37 : decode cX10_init 37 = .ok (.iload_n 1, 1) := dk_27 (dk_at dksX10_init_1 14 rfl rfl)
theorem dX10_init_38 : decode cX10_init 38 = .ok (.new 9, 3) := dk_187 0 9 (dk_at dksX10_init_1 15 rfl rfl)
theorem dX10_init_41 : decode cX10_init 41 = .ok (.dup, 1) := dk_89 (dk_at dksX10_init_1 18 rfl rfl)
theorem dX10_init_42 : decode cX10_init 42 = .ok (.invokespecial 24, 3) := dk_183 0 24 (dk_at dksX10_init_1 19 rfl rfl)
theorem dX10_init_45 : decode cX10_init 45 = .ok (.aastore, 1) := dk_83 (dk_at dksX10_init_1 22 rfl rfl)
theorem dX10_init_46 : decode cX10_init 46 = .ok (.iinc 1 1, 3) := dk_132 1 1 (dk_at dksX10_init_2 0 rfl rfl)
theorem dX10_init_49 : decode cX10_init 49 = .ok (.goto (-21), 3) := dk_167 255 235 (dk_at dksX10_init_2 3 rfl rfl)
theorem dX10_init_52 : decode cX10_init 52 = .ok (.return_, 1) := dk_177 (dk_at dksX10_init_2 6 rfl rfl)
abbrev cX10_seek : ByteArray := prog_4_method_2_code
def yX10_seek : MethodName := ⟨RX10, "seek", "(LWrongRoom$Town;LWrongRoom$Rooms;)V"⟩
def dkwX10_seek_1 : List UInt8 := [182, 0, 36, 3, 62, 29, 6, 163, 0, 15, 42, 3, 29, 182, 0, 40, 132, 3, 1, 167, 255, 242, 177]
abbrev dktX10_seek_1 : List UInt8 := dkwX10_seek_1 ++ []
def dkwX10_seek_0 : List UInt8 := [42, 43, 181, 0, 25, 42, 2, 181, 0, 29, 42, 3, 181, 0, 33, 42, 180, 0, 11, 3, 50, 44]
abbrev dktX10_seek_0 : List UInt8 := dkwX10_seek_0 ++ dktX10_seek_1
theorem dksX10_seek_0 : cX10_seek.data.toList.drop 0 = dktX10_seek_0 := by decide +kernel
theorem dksX10_seek_1 : cX10_seek.data.toList.drop 22 = dktX10_seek_1 := dk_seg dksX10_seek_0 22 rfl rfl
theorem dX10_seek_0 : decode cX10_seek 0 = .ok (.aload_n 0, 1) := dk_42 (dk_at dksX10_seek_0 0 rfl rfl)
theorem dX10_seek_1 : decode cX10_seek 1 = .ok (.aload_n 1, 1) := dk_43 (dk_at dksX10_seek_0 1 rfl rfl)
theorem dX10_seek_2 : decode cX10_seek 2 = .ok (.putfield 25, 3) := dk_181 0 25 (dk_at dksX10_seek_0 2 rfl rfl)
theorem dX10_seek_5 : decode cX10_seek 5 = .ok (.aload_n 0, 1) := dk_42 (dk_at dksX10_seek_0 5 rfl rfl)
theorem dX10_seek_6 : decode cX10_seek 6 = .ok (.iconst (-1), 1) := dk_2 (dk_at dksX10_seek_0 6 rfl rfl)
theorem dX10_seek_7 : decode cX10_seek 7 = .ok (.putfield 29, 3) := dk_181 0 29 (dk_at dksX10_seek_0 7 rfl rfl)
theorem dX10_seek_10 : decode cX10_seek 10 = .ok (.aload_n 0, 1) := dk_42 (dk_at dksX10_seek_0 10 rfl rfl)
theorem dX10_seek_11 : decode cX10_seek 11 = .ok (.iconst 0, 1) := dk_3 (dk_at dksX10_seek_0 11 rfl rfl)
theorem dX10_seek_12 : decode cX10_seek 12 = .ok (.putfield 33, 3) := dk_181 0 33 (dk_at dksX10_seek_0 12 rfl rfl)
theorem dX10_seek_15 : decode cX10_seek 15 = .ok (.aload_n 0, 1) := dk_42 (dk_at dksX10_seek_0 15 rfl rfl)
theorem dX10_seek_16 : decode cX10_seek 16 = .ok (.getfield 11, 3) := dk_180 0 11 (dk_at dksX10_seek_0 16 rfl rfl)
theorem dX10_seek_19 : decode cX10_seek 19 = .ok (.iconst 0, 1) := dk_3 (dk_at dksX10_seek_0 19 rfl rfl)
theorem dX10_seek_20 : decode cX10_seek 20 = .ok (.aaload, 1) := dk_50 (dk_at dksX10_seek_0 20 rfl rfl)
theorem dX10_seek_21 : decode cX10_seek 21 = .ok (.aload_n 2, 1) := dk_44 (dk_at dksX10_seek_0 21 rfl rfl)
theorem dX10_seek_22 : decode cX10_seek 22 = .ok (.invokevirtual 36, 3) := dk_182 0 36 (dk_at dksX10_seek_1 0 rfl rfl)
theorem dX10_seek_25 : decode cX10_seek 25 = .ok (.iconst 0, 1) := dk_3 (dk_at dksX10_seek_1 3 rfl rfl)
theorem dX10_seek_26 : decode cX10_seek 26 = .ok (.istore_n 3, 1) := dk_62 (dk_at dksX10_seek_1 4 rfl rfl)
theorem dX10_seek_27 : decode cX10_seek 27 = .ok (.iload_n 3, 1) := dk_29 (dk_at dksX10_seek_1 5 rfl rfl)
theorem dX10_seek_28 : decode cX10_seek 28 = .ok (.iconst 3, 1) := dk_6 (dk_at dksX10_seek_1 6 rfl rfl)
theorem dX10_seek_29 : decode cX10_seek 29 = .ok (.if_icmp .gt 15, 3) := dk_163 0 15 (dk_at dksX10_seek_1 7 rfl rfl)
theorem dX10_seek_32 : decode cX10_seek 32 = .ok (.aload_n 0, 1) := dk_42 (dk_at dksX10_seek_1 10 rfl rfl)
theorem dX10_seek_33 : decode cX10_seek 33 = .ok (.iconst 0, 1) := dk_3 (dk_at dksX10_seek_1 11 rfl rfl)
theorem dX10_seek_34 : decode cX10_seek 34 = .ok (.iload_n 3, 1) := dk_29 (dk_at dksX10_seek_1 12 rfl rfl)
theorem dX10_seek_35 : decode cX10_seek 35 = .ok (.invokevirtual 40, 3) := dk_182 0 40 (dk_at dksX10_seek_1 13 rfl rfl)
theorem dX10_seek_38 : decode cX10_seek 38 = .ok (.iinc 3 1, 3) := dk_132 3 1 (dk_at dksX10_seek_1 16 rfl rfl)
theorem dX10_seek_41 : decode cX10_seek 41 = .ok (.goto (-14), 3) := dk_167 255 242 (dk_at dksX10_seek_1 19 rfl rfl)
theorem dX10_seek_44 : decode cX10_seek 44 = .ok (.return_, 1) := dk_177 (dk_at dksX10_seek_1 22 rfl rfl)
abbrev cX10_tries : ByteArray := prog_4_method_3_code
def yX10_tries : MethodName := ⟨RX10, "tries", "(II)V"⟩
def dkwX10_tries_6 : List UInt8 := [96, 79, 42, 27, 4, 96, 28, 182, 0, 40, 132, 4, 1, 167, 255, 171, 132, 3, 1, 167, 255, 149, 177]
abbrev dktX10_tries_6 : List UInt8 := dkwX10_tries_6 ++ []
def dkwX10_tries_5 : List UInt8 := [180, 0, 11, 27, 4, 96, 50, 29, 21, 4, 182, 0, 67, 42, 180, 0, 17, 27, 16, 10, 29, 104, 21, 4]
abbrev dktX10_tries_5 : List UInt8 := dkwX10_tries_5 ++ dktX10_tries_6
def dkwX10_tries_4 : List UInt8 := [154, 0, 6, 167, 0, 55, 42, 180, 0, 11, 27, 4, 96, 50, 42, 180, 0, 11, 27, 50, 182, 0, 36, 42]
abbrev dktX10_tries_4 : List UInt8 := dkwX10_tries_4 ++ dktX10_tries_5
def dkwX10_tries_3 : List UInt8 := [21, 4, 42, 180, 0, 25, 180, 0, 58, 162, 0, 79, 42, 180, 0, 11, 27, 50, 29, 21, 4, 182, 0, 63]
abbrev dktX10_tries_3 : List UInt8 := dkwX10_tries_3 ++ dktX10_tries_4
def dkwX10_tries_2 : List UInt8 := [6, 184, 0, 52, 177, 3, 62, 29, 42, 180, 0, 25, 180, 0, 58, 162, 0, 102, 29, 4, 96, 54, 4]
abbrev dktX10_tries_2 : List UInt8 := dkwX10_tries_2 ++ dktX10_tries_3
def dkwX10_tries_1 : List UInt8 := [163, 0, 4, 177, 42, 29, 181, 0, 29, 42, 28, 181, 0, 33, 42, 180, 0, 17, 3, 42, 180, 0, 21, 3]
abbrev dktX10_tries_1 : List UInt8 := dkwX10_tries_1 ++ dktX10_tries_2
def dkwX10_tries_0 : List UInt8 := [27, 28, 160, 0, 50, 42, 180, 0, 11, 27, 50, 182, 0, 44, 184, 0, 48, 62, 29, 42, 180, 0, 29]
abbrev dktX10_tries_0 : List UInt8 := dkwX10_tries_0 ++ dktX10_tries_1
theorem dksX10_tries_0 : cX10_tries.data.toList.drop 0 = dktX10_tries_0 := by decide +kernel
theorem dksX10_tries_1 : cX10_tries.data.toList.drop 23 = dktX10_tries_1 := dk_seg dksX10_tries_0 23 rfl rfl
theorem dksX10_tries_2 : cX10_tries.data.toList.drop 47 = dktX10_tries_2 := dk_seg dksX10_tries_1 24 rfl rfl
theorem dksX10_tries_3 : cX10_tries.data.toList.drop 70 = dktX10_tries_3 := dk_seg dksX10_tries_2 23 rfl rfl
theorem dksX10_tries_4 : cX10_tries.data.toList.drop 94 = dktX10_tries_4 := dk_seg dksX10_tries_3 24 rfl rfl
theorem dksX10_tries_5 : cX10_tries.data.toList.drop 118 = dktX10_tries_5 := dk_seg dksX10_tries_4 24 rfl rfl
theorem dksX10_tries_6 : cX10_tries.data.toList.drop 142 = dktX10_tries_6 := dk_seg dksX10_tries_5 24 rfl rfl
theorem dX10_tries_0 : decode cX10_tries 0 = .ok (.iload_n 1, 1) := dk_27 (dk_at dksX10_tries_0 0 rfl rfl)
theorem dX10_tries_1 : decode cX10_tries 1 = .ok (.iload_n 2, 1) := dk_28 (dk_at dksX10_tries_0 1 rfl rfl)
theorem dX10_tries_2 : decode cX10_tries 2 = .ok (.if_icmp .ne 50, 3) := dk_160 0 50 (dk_at dksX10_tries_0 2 rfl rfl)
theorem dX10_tries_5 : decode cX10_tries 5 = .ok (.aload_n 0, 1) := dk_42 (dk_at dksX10_tries_0 5 rfl rfl)
theorem dX10_tries_6 : decode cX10_tries 6 = .ok (.getfield 11, 3) := dk_180 0 11 (dk_at dksX10_tries_0 6 rfl rfl)
theorem dX10_tries_9 : decode cX10_tries 9 = .ok (.iload_n 1, 1) := dk_27 (dk_at dksX10_tries_0 9 rfl rfl)
theorem dX10_tries_10 : decode cX10_tries 10 = .ok (.aaload, 1) := dk_50 (dk_at dksX10_tries_0 10 rfl rfl)
theorem dX10_tries_11 : decode cX10_tries 11 = .ok (.invokevirtual 44, 3) := dk_182 0 44 (dk_at dksX10_tries_0 11 rfl rfl)
theorem dX10_tries_14 : decode cX10_tries 14 = .ok (.invokestatic 48, 3) := dk_184 0 48 (dk_at dksX10_tries_0 14 rfl rfl)
theorem dX10_tries_17 : decode cX10_tries 17 = .ok (.istore_n 3, 1) := dk_62 (dk_at dksX10_tries_0 17 rfl rfl)
theorem dX10_tries_18 : decode cX10_tries 18 = .ok (.iload_n 3, 1) := dk_29 (dk_at dksX10_tries_0 18 rfl rfl)
theorem dX10_tries_19 : decode cX10_tries 19 = .ok (.aload_n 0, 1) := dk_42 (dk_at dksX10_tries_0 19 rfl rfl)
theorem dX10_tries_20 : decode cX10_tries 20 = .ok (.getfield 29, 3) := dk_180 0 29 (dk_at dksX10_tries_0 20 rfl rfl)
theorem dX10_tries_23 : decode cX10_tries 23 = .ok (.if_icmp .gt 4, 3) := dk_163 0 4 (dk_at dksX10_tries_1 0 rfl rfl)
theorem dX10_tries_26 : decode cX10_tries 26 = .ok (.return_, 1) := dk_177 (dk_at dksX10_tries_1 3 rfl rfl)
theorem dX10_tries_27 : decode cX10_tries 27 = .ok (.aload_n 0, 1) := dk_42 (dk_at dksX10_tries_1 4 rfl rfl)
theorem dX10_tries_28 : decode cX10_tries 28 = .ok (.iload_n 3, 1) := dk_29 (dk_at dksX10_tries_1 5 rfl rfl)
theorem dX10_tries_29 : decode cX10_tries 29 = .ok (.putfield 29, 3) := dk_181 0 29 (dk_at dksX10_tries_1 6 rfl rfl)
theorem dX10_tries_32 : decode cX10_tries 32 = .ok (.aload_n 0, 1) := dk_42 (dk_at dksX10_tries_1 9 rfl rfl)
theorem dX10_tries_33 : decode cX10_tries 33 = .ok (.iload_n 2, 1) := dk_28 (dk_at dksX10_tries_1 10 rfl rfl)
theorem dX10_tries_34 : decode cX10_tries 34 = .ok (.putfield 33, 3) := dk_181 0 33 (dk_at dksX10_tries_1 11 rfl rfl)
theorem dX10_tries_37 : decode cX10_tries 37 = .ok (.aload_n 0, 1) := dk_42 (dk_at dksX10_tries_1 14 rfl rfl)
theorem dX10_tries_38 : decode cX10_tries 38 = .ok (.getfield 17, 3) := dk_180 0 17 (dk_at dksX10_tries_1 15 rfl rfl)
theorem dX10_tries_41 : decode cX10_tries 41 = .ok (.iconst 0, 1) := dk_3 (dk_at dksX10_tries_1 18 rfl rfl)
theorem dX10_tries_42 : decode cX10_tries 42 = .ok (.aload_n 0, 1) := dk_42 (dk_at dksX10_tries_1 19 rfl rfl)
theorem dX10_tries_43 : decode cX10_tries 43 = .ok (.getfield 21, 3) := dk_180 0 21 (dk_at dksX10_tries_1 20 rfl rfl)
theorem dX10_tries_46 : decode cX10_tries 46 = .ok (.iconst 0, 1) := dk_3 (dk_at dksX10_tries_1 23 rfl rfl)
theorem dX10_tries_47 : decode cX10_tries 47 = .ok (.iconst 3, 1) := dk_6 (dk_at dksX10_tries_2 0 rfl rfl)
theorem dX10_tries_48 : decode cX10_tries 48 = .ok (.invokestatic 52, 3) := dk_184 0 52 (dk_at dksX10_tries_2 1 rfl rfl)
theorem dX10_tries_51 : decode cX10_tries 51 = .ok (.return_, 1) := dk_177 (dk_at dksX10_tries_2 4 rfl rfl)
theorem dX10_tries_52 : decode cX10_tries 52 = .ok (.iconst 0, 1) := dk_3 (dk_at dksX10_tries_2 5 rfl rfl)
theorem dX10_tries_53 : decode cX10_tries 53 = .ok (.istore_n 3, 1) := dk_62 (dk_at dksX10_tries_2 6 rfl rfl)
theorem dX10_tries_54 : decode cX10_tries 54 = .ok (.iload_n 3, 1) := dk_29 (dk_at dksX10_tries_2 7 rfl rfl)
theorem dX10_tries_55 : decode cX10_tries 55 = .ok (.aload_n 0, 1) := dk_42 (dk_at dksX10_tries_2 8 rfl rfl)
theorem dX10_tries_56 : decode cX10_tries 56 = .ok (.getfield 25, 3) := dk_180 0 25 (dk_at dksX10_tries_2 9 rfl rfl)
theorem dX10_tries_59 : decode cX10_tries 59 = .ok (.getfield 58, 3) := dk_180 0 58 (dk_at dksX10_tries_2 12 rfl rfl)
theorem dX10_tries_62 : decode cX10_tries 62 = .ok (.if_icmp .ge 102, 3) := dk_162 0 102 (dk_at dksX10_tries_2 15 rfl rfl)
theorem dX10_tries_65 : decode cX10_tries 65 = .ok (.iload_n 3, 1) := dk_29 (dk_at dksX10_tries_2 18 rfl rfl)
theorem dX10_tries_66 : decode cX10_tries 66 = .ok (.iconst 1, 1) := dk_4 (dk_at dksX10_tries_2 19 rfl rfl)
theorem dX10_tries_67 : decode cX10_tries 67 = .ok (.iadd, 1) := dk_96 (dk_at dksX10_tries_2 20 rfl rfl)
theorem dX10_tries_68 : decode cX10_tries 68 = .ok (.istore 4, 2) := dk_54 4 (dk_at dksX10_tries_2 21 rfl rfl)
theorem dX10_tries_70 : decode cX10_tries 70 = .ok (.iload 4, 2) := dk_21 4 (dk_at dksX10_tries_3 0 rfl rfl)
theorem dX10_tries_72 : decode cX10_tries 72 = .ok (.aload_n 0, 1) := dk_42 (dk_at dksX10_tries_3 2 rfl rfl)
theorem dX10_tries_73 : decode cX10_tries 73 = .ok (.getfield 25, 3) := dk_180 0 25 (dk_at dksX10_tries_3 3 rfl rfl)
theorem dX10_tries_76 : decode cX10_tries 76 = .ok (.getfield 58, 3) := dk_180 0 58 (dk_at dksX10_tries_3 6 rfl rfl)
theorem dX10_tries_79 : decode cX10_tries 79 = .ok (.if_icmp .ge 79, 3) := dk_162 0 79 (dk_at dksX10_tries_3 9 rfl rfl)
theorem dX10_tries_82 : decode cX10_tries 82 = .ok (.aload_n 0, 1) := dk_42 (dk_at dksX10_tries_3 12 rfl rfl)
theorem dX10_tries_83 : decode cX10_tries 83 = .ok (.getfield 11, 3) := dk_180 0 11 (dk_at dksX10_tries_3 13 rfl rfl)
theorem dX10_tries_86 : decode cX10_tries 86 = .ok (.iload_n 1, 1) := dk_27 (dk_at dksX10_tries_3 16 rfl rfl)
theorem dX10_tries_87 : decode cX10_tries 87 = .ok (.aaload, 1) := dk_50 (dk_at dksX10_tries_3 17 rfl rfl)
theorem dX10_tries_88 : decode cX10_tries 88 = .ok (.iload_n 3, 1) := dk_29 (dk_at dksX10_tries_3 18 rfl rfl)
theorem dX10_tries_89 : decode cX10_tries 89 = .ok (.iload 4, 2) := dk_21 4 (dk_at dksX10_tries_3 19 rfl rfl)
theorem dX10_tries_91 : decode cX10_tries 91 = .ok (.invokevirtual 63, 3) := dk_182 0 63 (dk_at dksX10_tries_3 21 rfl rfl)
theorem dX10_tries_94 : decode cX10_tries 94 = .ok (.ifCond .ne 6, 3) := dk_154 0 6 (dk_at dksX10_tries_4 0 rfl rfl)
theorem dX10_tries_97 : decode cX10_tries 97 = .ok (.goto 55, 3) := dk_167 0 55 (dk_at dksX10_tries_4 3 rfl rfl)
theorem dX10_tries_100 : decode cX10_tries 100 = .ok (.aload_n 0, 1) := dk_42 (dk_at dksX10_tries_4 6 rfl rfl)
theorem dX10_tries_101 : decode cX10_tries 101 = .ok (.getfield 11, 3) := dk_180 0 11 (dk_at dksX10_tries_4 7 rfl rfl)
theorem dX10_tries_104 : decode cX10_tries 104 = .ok (.iload_n 1, 1) := dk_27 (dk_at dksX10_tries_4 10 rfl rfl)
theorem dX10_tries_105 : decode cX10_tries 105 = .ok (.iconst 1, 1) := dk_4 (dk_at dksX10_tries_4 11 rfl rfl)
theorem dX10_tries_106 : decode cX10_tries 106 = .ok (.iadd, 1) := dk_96 (dk_at dksX10_tries_4 12 rfl rfl)
theorem dX10_tries_107 : decode cX10_tries 107 = .ok (.aaload, 1) := dk_50 (dk_at dksX10_tries_4 13 rfl rfl)
theorem dX10_tries_108 : decode cX10_tries 108 = .ok (.aload_n 0, 1) := dk_42 (dk_at dksX10_tries_4 14 rfl rfl)
theorem dX10_tries_109 : decode cX10_tries 109 = .ok (.getfield 11, 3) := dk_180 0 11 (dk_at dksX10_tries_4 15 rfl rfl)
theorem dX10_tries_112 : decode cX10_tries 112 = .ok (.iload_n 1, 1) := dk_27 (dk_at dksX10_tries_4 18 rfl rfl)
theorem dX10_tries_113 : decode cX10_tries 113 = .ok (.aaload, 1) := dk_50 (dk_at dksX10_tries_4 19 rfl rfl)
theorem dX10_tries_114 : decode cX10_tries 114 = .ok (.invokevirtual 36, 3) := dk_182 0 36 (dk_at dksX10_tries_4 20 rfl rfl)
theorem dX10_tries_117 : decode cX10_tries 117 = .ok (.aload_n 0, 1) := dk_42 (dk_at dksX10_tries_4 23 rfl rfl)
theorem dX10_tries_118 : decode cX10_tries 118 = .ok (.getfield 11, 3) := dk_180 0 11 (dk_at dksX10_tries_5 0 rfl rfl)
theorem dX10_tries_121 : decode cX10_tries 121 = .ok (.iload_n 1, 1) := dk_27 (dk_at dksX10_tries_5 3 rfl rfl)
theorem dX10_tries_122 : decode cX10_tries 122 = .ok (.iconst 1, 1) := dk_4 (dk_at dksX10_tries_5 4 rfl rfl)
theorem dX10_tries_123 : decode cX10_tries 123 = .ok (.iadd, 1) := dk_96 (dk_at dksX10_tries_5 5 rfl rfl)
theorem dX10_tries_124 : decode cX10_tries 124 = .ok (.aaload, 1) := dk_50 (dk_at dksX10_tries_5 6 rfl rfl)
theorem dX10_tries_125 : decode cX10_tries 125 = .ok (.iload_n 3, 1) := dk_29 (dk_at dksX10_tries_5 7 rfl rfl)
theorem dX10_tries_126 : decode cX10_tries 126 = .ok (.iload 4, 2) := dk_21 4 (dk_at dksX10_tries_5 8 rfl rfl)
theorem dX10_tries_128 : decode cX10_tries 128 = .ok (.invokevirtual 67, 3) := dk_182 0 67 (dk_at dksX10_tries_5 10 rfl rfl)
theorem dX10_tries_131 : decode cX10_tries 131 = .ok (.aload_n 0, 1) := dk_42 (dk_at dksX10_tries_5 13 rfl rfl)
theorem dX10_tries_132 : decode cX10_tries 132 = .ok (.getfield 17, 3) := dk_180 0 17 (dk_at dksX10_tries_5 14 rfl rfl)
theorem dX10_tries_135 : decode cX10_tries 135 = .ok (.iload_n 1, 1) := dk_27 (dk_at dksX10_tries_5 17 rfl rfl)
theorem dX10_tries_136 : decode cX10_tries 136 = .ok (.bipush 10, 2) := dk_16 10 (dk_at dksX10_tries_5 18 rfl rfl)
theorem dX10_tries_138 : decode cX10_tries 138 = .ok (.iload_n 3, 1) := dk_29 (dk_at dksX10_tries_5 20 rfl rfl)
theorem dX10_tries_139 : decode cX10_tries 139 = .ok (.imul, 1) := dk_104 (dk_at dksX10_tries_5 21 rfl rfl)
theorem dX10_tries_140 : decode cX10_tries 140 = .ok (.iload 4, 2) := dk_21 4 (dk_at dksX10_tries_5 22 rfl rfl)
theorem dX10_tries_142 : decode cX10_tries 142 = .ok (.iadd, 1) := dk_96 (dk_at dksX10_tries_6 0 rfl rfl)
theorem dX10_tries_143 : decode cX10_tries 143 = .ok (.iastore, 1) := dk_79 (dk_at dksX10_tries_6 1 rfl rfl)
theorem dX10_tries_144 : decode cX10_tries 144 = .ok (.aload_n 0, 1) := dk_42 (dk_at dksX10_tries_6 2 rfl rfl)
theorem dX10_tries_145 : decode cX10_tries 145 = .ok (.iload_n 1, 1) := dk_27 (dk_at dksX10_tries_6 3 rfl rfl)
theorem dX10_tries_146 : decode cX10_tries 146 = .ok (.iconst 1, 1) := dk_4 (dk_at dksX10_tries_6 4 rfl rfl)
theorem dX10_tries_147 : decode cX10_tries 147 = .ok (.iadd, 1) := dk_96 (dk_at dksX10_tries_6 5 rfl rfl)
theorem dX10_tries_148 : decode cX10_tries 148 = .ok (.iload_n 2, 1) := dk_28 (dk_at dksX10_tries_6 6 rfl rfl)
theorem dX10_tries_149 : decode cX10_tries 149 = .ok (.invokevirtual 40, 3) := dk_182 0 40 (dk_at dksX10_tries_6 7 rfl rfl)
theorem dX10_tries_152 : decode cX10_tries 152 = .ok (.iinc 4 1, 3) := dk_132 4 1 (dk_at dksX10_tries_6 10 rfl rfl)
theorem dX10_tries_155 : decode cX10_tries 155 = .ok (.goto (-85), 3) := dk_167 255 171 (dk_at dksX10_tries_6 13 rfl rfl)
theorem dX10_tries_158 : decode cX10_tries 158 = .ok (.iinc 3 1, 3) := dk_132 3 1 (dk_at dksX10_tries_6 16 rfl rfl)
theorem dX10_tries_161 : decode cX10_tries 161 = .ok (.goto (-107), 3) := dk_167 255 149 (dk_at dksX10_tries_6 19 rfl rfl)
theorem dX10_tries_164 : decode cX10_tries 164 = .ok (.return_, 1) := dk_177 (dk_at dksX10_tries_6 22 rfl rfl)
abbrev cX10_at : ByteArray := prog_4_method_4_code
def yX10_at : MethodName := ⟨RX10, "at", "(I)I"⟩
def dkwX10_at_0 : List UInt8 := [42, 180, 0, 21, 27, 46, 172]
abbrev dktX10_at_0 : List UInt8 := dkwX10_at_0 ++ []
theorem dksX10_at_0 : cX10_at.data.toList.drop 0 = dktX10_at_0 := by decide +kernel
theorem dX10_at_0 : decode cX10_at 0 = .ok (.aload_n 0, 1) := dk_42 (dk_at dksX10_at_0 0 rfl rfl)
theorem dX10_at_1 : decode cX10_at 1 = .ok (.getfield 21, 3) := dk_180 0 21 (dk_at dksX10_at_0 1 rfl rfl)
theorem dX10_at_4 : decode cX10_at 4 = .ok (.iload_n 1, 1) := dk_27 (dk_at dksX10_at_0 4 rfl rfl)
theorem dX10_at_5 : decode cX10_at 5 = .ok (.iaload, 1) := dk_46 (dk_at dksX10_at_0 5 rfl rfl)
theorem dX10_at_6 : decode cX10_at 6 = .ok (.ireturn, 1) := dk_172 (dk_at dksX10_at_0 6 rfl rfl)
theorem q123 : (Jvm.Cond.initialized "WrongRoom$Exchanges") ∈ lw_all := lw_g (lw_at lw_m1 13 rfl) rfl
theorem q371 : (Jvm.Cond.instantiable "WrongRoom$Exchanges" (6 : Nat)) ∈ lw_all := lw_g (lw_at lw_m2 21 rfl) rfl
theorem q373 : (Jvm.Cond.instanceMethod ({ cls := "WrongRoom$Exchanges", name := "<init>", desc := "()V" } : Jvm.MethodName)) ∈ lw_all := lw_g (lw_at lw_m2 23 rfl) rfl
theorem q374 : (Jvm.Cond.code ({ cls := "WrongRoom$Exchanges", name := "<init>", desc := "()V" } : Jvm.MethodName) prog_4_method_1_code (2 : Nat) (Option.none : Option Jvm.ClassFile.FieldType)) ∈ lw_all := lw_g (lw_at lw_m2 24 rfl) rfl
theorem q375 : (Jvm.Cond.methodLink "WrongRoom$Exchanges" (3 : Nat) ({ cls := "java/lang/Object", name := "<init>", desc := "()V" } : Jvm.MethodName)) ∈ lw_all := lw_g (lw_at lw_m2 25 rfl) rfl
theorem q376 : (Jvm.Cond.classLink "WrongRoom$Exchanges" (9 : Nat) "WrongRoom$Rooms") ∈ lw_all := lw_g (lw_at lw_m2 26 rfl) rfl
theorem q378 : (Jvm.Cond.methodLinkNest "WrongRoom$Exchanges" (24 : Nat) ({ cls := "WrongRoom$Rooms", name := "<init>", desc := "()V" } : Jvm.MethodName) "WrongRoom") ∈ lw_tbl := lw_at lw_m2 28 rfl
theorem q379 : (Jvm.Cond.fieldLink "WrongRoom$Exchanges" (11 : Nat) "WrongRoom$Exchanges" "rooms" "[LWrongRoom$Rooms;") ∈ lw_all := lw_g (lw_at lw_m2 29 rfl) rfl
theorem q380 : (Jvm.Cond.fieldLink "WrongRoom$Exchanges" (17 : Nat) "WrongRoom$Exchanges" "row" "[I") ∈ lw_all := lw_g (lw_at lw_m2 30 rfl) rfl
theorem q381 : (Jvm.Cond.fieldLink "WrongRoom$Exchanges" (21 : Nat) "WrongRoom$Exchanges" "best" "[I") ∈ lw_all := lw_g (lw_at lw_m2 31 rfl) rfl
theorem q382 : (Jvm.Cond.fieldLink "WrongRoom$Exchanges" (25 : Nat) "WrongRoom$Exchanges" "town" "LWrongRoom$Town;") ∈ lw_all := lw_g (lw_at lw_m2 32 rfl) rfl
theorem q383 : (Jvm.Cond.fieldLink "WrongRoom$Exchanges" (29 : Nat) "WrongRoom$Exchanges" "paired" "I") ∈ lw_all := lw_g (lw_at lw_m2 33 rfl) rfl
theorem q385 : (Jvm.Cond.fieldLink "WrongRoom$Exchanges" (33 : Nat) "WrongRoom$Exchanges" "many" "I") ∈ lw_all := lw_g (lw_at lw_m2 35 rfl) rfl
theorem q387 : (Jvm.Cond.laysFinal "WrongRoom$Exchanges" "WrongRoom$Exchanges" "rooms" "[LWrongRoom$Rooms;") ∈ lw_all := lw_g (lw_at lw_m2 37 rfl) rfl
theorem q388 : (Jvm.Cond.soleField "WrongRoom$Exchanges" "rooms") ∈ lw_all := lw_g (lw_at lw_m2 38 rfl) rfl
theorem q389 : (Jvm.Cond.laysFinal "WrongRoom$Exchanges" "WrongRoom$Exchanges" "row" "[I") ∈ lw_all := lw_g (lw_at lw_m2 39 rfl) rfl
theorem q390 : (Jvm.Cond.soleField "WrongRoom$Exchanges" "row") ∈ lw_all := lw_g (lw_at lw_m2 40 rfl) rfl
theorem q391 : (Jvm.Cond.laysFinal "WrongRoom$Exchanges" "WrongRoom$Exchanges" "best" "[I") ∈ lw_all := lw_g (lw_at lw_m2 41 rfl) rfl
theorem q392 : (Jvm.Cond.soleField "WrongRoom$Exchanges" "best") ∈ lw_all := lw_g (lw_at lw_m2 42 rfl) rfl
theorem q393 : (Jvm.Cond.lays "WrongRoom$Exchanges" "WrongRoom$Exchanges" "town" "LWrongRoom$Town;") ∈ lw_all := lw_g (lw_at lw_m2 43 rfl) rfl
theorem q394 : (Jvm.Cond.soleField "WrongRoom$Exchanges" "town") ∈ lw_all := lw_g (lw_at lw_m2 44 rfl) rfl
theorem q395 : (Jvm.Cond.lays "WrongRoom$Exchanges" "WrongRoom$Exchanges" "paired" "I") ∈ lw_all := lw_g (lw_at lw_m2 45 rfl) rfl
theorem q396 : (Jvm.Cond.soleField "WrongRoom$Exchanges" "paired") ∈ lw_all := lw_g (lw_at lw_m2 46 rfl) rfl
theorem q397 : (Jvm.Cond.lays "WrongRoom$Exchanges" "WrongRoom$Exchanges" "many" "I") ∈ lw_all := lw_g (lw_at lw_m2 47 rfl) rfl
theorem q398 : (Jvm.Cond.soleField "WrongRoom$Exchanges" "many") ∈ lw_all := lw_g (lw_at lw_m2 48 rfl) rfl
theorem q399 : (Jvm.Cond.superclass "WrongRoom$Exchanges" "java/lang/Object") ∈ lw_all := lw_g (lw_at lw_m2 49 rfl) rfl
theorem q526 : (Jvm.Cond.fieldLink "WrongRoom$Exchanges" (58 : Nat) "WrongRoom$Town" "houseMany" "I") ∈ lw_all := lw_g (lw_at lw_m2 176 rfl) rfl
theorem q1215 : (Jvm.Cond.instanceMethod ({ cls := "WrongRoom$Exchanges", name := "seek", desc := "(LWrongRoom$Town;LWrongRoom$Rooms;)V" } : Jvm.MethodName)) ∈ lw_all := lw_g (lw_at lw_m5 145 rfl) rfl
theorem q1216 : (Jvm.Cond.selects "WrongRoom$Exchanges" ({ cls := "WrongRoom$Exchanges", name := "seek", desc := "(LWrongRoom$Town;LWrongRoom$Rooms;)V" } : Jvm.MethodName) ({ cls := "WrongRoom$Exchanges", name := "seek", desc := "(LWrongRoom$Town;LWrongRoom$Rooms;)V" } : Jvm.MethodName)) ∈ lw_all := lw_g (lw_at lw_m5 146 rfl) rfl
theorem q1217 : (Jvm.Cond.code ({ cls := "WrongRoom$Exchanges", name := "seek", desc := "(LWrongRoom$Town;LWrongRoom$Rooms;)V" } : Jvm.MethodName) prog_4_method_2_code (4 : Nat) (Option.none : Option Jvm.ClassFile.FieldType)) ∈ lw_all := lw_g (lw_at lw_m5 147 rfl) rfl
theorem q1218 : (Jvm.Cond.methodLink "WrongRoom$Exchanges" (36 : Nat) ({ cls := "WrongRoom$Rooms", name := "become", desc := "(LWrongRoom$Rooms;)V" } : Jvm.MethodName)) ∈ lw_all := lw_g (lw_at lw_m5 148 rfl) rfl
theorem q1223 : (Jvm.Cond.methodLink "WrongRoom$Exchanges" (40 : Nat) ({ cls := "WrongRoom$Exchanges", name := "tries", desc := "(II)V" } : Jvm.MethodName)) ∈ lw_all := lw_g (lw_at lw_m5 153 rfl) rfl
theorem q1224 : (Jvm.Cond.privateMethod ({ cls := "WrongRoom$Exchanges", name := "tries", desc := "(II)V" } : Jvm.MethodName)) ∈ lw_tbl := lw_at lw_m5 154 rfl
theorem q1225 : (Jvm.Cond.instanceMethod ({ cls := "WrongRoom$Exchanges", name := "tries", desc := "(II)V" } : Jvm.MethodName)) ∈ lw_all := lw_g (lw_at lw_m5 155 rfl) rfl
theorem q1226 : (Jvm.Cond.code ({ cls := "WrongRoom$Exchanges", name := "tries", desc := "(II)V" } : Jvm.MethodName) prog_4_method_3_code (5 : Nat) (Option.none : Option Jvm.ClassFile.FieldType)) ∈ lw_all := lw_g (lw_at lw_m5 156 rfl) rfl
theorem q1227 : (Jvm.Cond.methodLink "WrongRoom$Exchanges" (44 : Nat) ({ cls := "WrongRoom$Rooms", name := "mutual", desc := "()I" } : Jvm.MethodName)) ∈ lw_all := lw_g (lw_at lw_m5 157 rfl) rfl
theorem q1228 : (Jvm.Cond.methodLinkNest "WrongRoom$Exchanges" (48 : Nat) ({ cls := "WrongRoom", name := "ones", desc := "(I)I" } : Jvm.MethodName) "WrongRoom") ∈ lw_tbl := lw_at lw_m5 158 rfl
theorem q1231 : (Jvm.Cond.methodLink "WrongRoom$Exchanges" (52 : Nat) ({ cls := "java/lang/System", name := "arraycopy", desc := "(Ljava/lang/Object;ILjava/lang/Object;II)V" } : Jvm.MethodName)) ∈ lw_all := lw_g (lw_at lw_m5 161 rfl) rfl
theorem q1232 : (Jvm.Cond.methodLink "WrongRoom$Exchanges" (63 : Nat) ({ cls := "WrongRoom$Rooms", name := "canExchange", desc := "(II)Z" } : Jvm.MethodName)) ∈ lw_all := lw_g (lw_at lw_m5 162 rfl) rfl
theorem q1236 : (Jvm.Cond.methodLink "WrongRoom$Exchanges" (67 : Nat) ({ cls := "WrongRoom$Rooms", name := "exchange", desc := "(II)V" } : Jvm.MethodName)) ∈ lw_all := lw_g (lw_at lw_m5 166 rfl) rfl
theorem q1249 : (Jvm.Cond.instanceMethod ({ cls := "WrongRoom$Exchanges", name := "at", desc := "(I)I" } : Jvm.MethodName)) ∈ lw_all := lw_g (lw_at lw_m5 179 rfl) rfl
theorem q1250 : (Jvm.Cond.selects "WrongRoom$Exchanges" ({ cls := "WrongRoom$Exchanges", name := "at", desc := "(I)I" } : Jvm.MethodName) ({ cls := "WrongRoom$Exchanges", name := "at", desc := "(I)I" } : Jvm.MethodName)) ∈ lw_all := lw_g (lw_at lw_m5 180 rfl) rfl
theorem q1251 : (Jvm.Cond.code ({ cls := "WrongRoom$Exchanges", name := "at", desc := "(I)I" } : Jvm.MethodName) prog_4_method_4_code (2 : Nat) (Option.some Jvm.ClassFile.FieldType.int)) ∈ lw_all := lw_g (lw_at lw_m5 181 rfl) rfl
theorem q2176 : (Jvm.Cond.castable "WrongRoom$Exchanges" "java/lang/Object") ∈ lw_tbl := lw_at lw_m9 146 rfl
theorem in_X10 : ∀ w ∈ wsX100, w ∈ lw_all := lw_in wsX100 [387, 389, 391, 393, 395, 397] (by decide +kernel) (by decide +kernel)
/-! WrongRoom$Town -/
set_option maxRecDepth 100000
def RX12 : String := "WrongRoom$Town"
def TX12 : u_T := fun k => match k with
  | 0 => ("WrongRoom$Town", "houses", "[LWrongRoom$House;", true)
  | 1 => ("WrongRoom$Town", "people", "[LWrongRoom$Person;", true)
  | 2 => ("WrongRoom$Town", "notices", "[LWrongRoom$Notice;", true)
  | 3 => ("WrongRoom$Town", "streets", "[I", true)
  | 4 => ("WrongRoom$Town", "door", "I", false)
  | 5 => ("WrongRoom$Town", "like", "I", false)
  | 6 => ("WrongRoom$Town", "houseMany", "I", false)
  | 7 => ("WrongRoom$Town", "hoursMany", "I", false)
  | 8 => ("WrongRoom$Town", "streetMany", "I", false)
  | 9 => ("WrongRoom$Town", "personMany", "I", false)
  | 10 => ("WrongRoom$Town", "signMany", "I", false)
  | _ => ("WrongRoom$Town", "noiseMany", "I", false)
def tyX12 : Nat → FieldType := fun k => match k with
  | 0 => .array (.object "WrongRoom$House")
  | 1 => .array (.object "WrongRoom$Person")
  | 2 => .array (.object "WrongRoom$Notice")
  | 3 => .array .int
  | 4 => .int
  | 5 => .int
  | 6 => .int
  | 7 => .int
  | 8 => .int
  | 9 => .int
  | 10 => .int
  | _ => .int
abbrev wsX120 : List Cond := u_ws RX12 TX12 12
theorem nmX12 : ∀ a, a < 12 → ∀ b, b < 12 → a ≠ b → (TX12 a).2.1 ≠ (TX12 b).2.1 := by decide +kernel
theorem tyX12_ok : ∀ k, k < 12 → parseFieldDescriptor (TX12 k).2.2.1 = some (tyX12 k) := by decide +kernel
abbrev cX12_init : ByteArray := prog_16_method_1_code
def yX12_init : MethodName := ⟨RX12, "<init>", "()V"⟩
def dkwX12_init_1 : List UInt8 := [189, 0, 23, 181, 0, 25, 42, 16, 49, 188, 10, 181, 0, 29, 177]
abbrev dktX12_init_1 : List UInt8 := dkwX12_init_1 ++ []
def dkwX12_init_0 : List UInt8 := [42, 183, 0, 3, 42, 16, 7, 189, 0, 9, 181, 0, 11, 42, 7, 189, 0, 17, 181, 0, 19, 42, 16, 12]
abbrev dktX12_init_0 : List UInt8 := dkwX12_init_0 ++ dktX12_init_1
theorem dksX12_init_0 : cX12_init.data.toList.drop 0 = dktX12_init_0 := by decide +kernel
theorem dksX12_init_1 : cX12_init.data.toList.drop 24 = dktX12_init_1 := dk_seg dksX12_init_0 24 rfl rfl
theorem dX12_init_0 : decode cX12_init 0 = .ok (.aload_n 0, 1) := dk_42 (dk_at dksX12_init_0 0 rfl rfl)
theorem dX12_init_1 : decode cX12_init 1 = .ok (.invokespecial 3, 3) := dk_183 0 3 (dk_at dksX12_init_0 1 rfl rfl)
theorem dX12_init_4 : decode cX12_init 4 = .ok (.aload_n 0, 1) := dk_42 (dk_at dksX12_init_0 4 rfl rfl)
theorem dX12_init_5 : decode cX12_init 5 = .ok (.bipush 7, 2) := dk_16 7 (dk_at dksX12_init_0 5 rfl rfl)
theorem dX12_init_7 : decode cX12_init 7 = .ok (.anewarray 9, 3) := dk_189 0 9 (dk_at dksX12_init_0 7 rfl rfl)
theorem dX12_init_10 : decode cX12_init 10 = .ok (.putfield 11, 3) := dk_181 0 11 (dk_at dksX12_init_0 10 rfl rfl)
theorem dX12_init_13 : decode cX12_init 13 = .ok (.aload_n 0, 1) := dk_42 (dk_at dksX12_init_0 13 rfl rfl)
theorem dX12_init_14 : decode cX12_init 14 = .ok (.iconst 4, 1) := dk_7 (dk_at dksX12_init_0 14 rfl rfl)
theorem dX12_init_15 : decode cX12_init 15 = .ok (.anewarray 17, 3) := dk_189 0 17 (dk_at dksX12_init_0 15 rfl rfl)
theorem dX12_init_18 : decode cX12_init 18 = .ok (.putfield 19, 3) := dk_181 0 19 (dk_at dksX12_init_0 18 rfl rfl)
theorem dX12_init_21 : decode cX12_init 21 = .ok (.aload_n 0, 1) := dk_42 (dk_at dksX12_init_0 21 rfl rfl)
theorem dX12_init_22 : decode cX12_init 22 = .ok (.bipush 12, 2) := dk_16 12 (dk_at dksX12_init_0 22 rfl rfl)
theorem dX12_init_24 : decode cX12_init 24 = .ok (.anewarray 23, 3) := dk_189 0 23 (dk_at dksX12_init_1 0 rfl rfl)
theorem dX12_init_27 : decode cX12_init 27 = .ok (.putfield 25, 3) := dk_181 0 25 (dk_at dksX12_init_1 3 rfl rfl)
theorem dX12_init_30 : decode cX12_init 30 = .ok (.aload_n 0, 1) := dk_42 (dk_at dksX12_init_1 6 rfl rfl)
theorem dX12_init_31 : decode cX12_init 31 = .ok (.bipush 49, 2) := dk_16 49 (dk_at dksX12_init_1 7 rfl rfl)
theorem dX12_init_33 : decode cX12_init 33 = .ok (.newarray .int, 2) := dk_188_10 (dk_at dksX12_init_1 9 rfl rfl)
theorem dX12_init_35 : decode cX12_init 35 = .ok (.putfield 29, 3) := dk_181 0 29 (dk_at dksX12_init_1 11 rfl rfl)
theorem dX12_init_38 : decode cX12_init 38 = .ok (.return_, 1) := dk_177 (dk_at dksX12_init_1 14 rfl rfl)
abbrev cX12_find : ByteArray := prog_16_method_2_code
def yX12_find : MethodName := ⟨RX12, "find", "(Ljava/lang/String;)LWrongRoom$Named;"⟩
def dkwX12_find_3 : List UInt8 := [50, 176, 132, 2, 1, 167, 255, 222, 1, 176]
abbrev dktX12_find_3 : List UInt8 := dkwX12_find_3 ++ []
def dkwX12_find_2 : List UInt8 := [162, 0, 32, 42, 180, 0, 19, 28, 50, 180, 0, 50, 43, 182, 0, 41, 153, 0, 10, 42, 180, 0, 19, 28]
abbrev dktX12_find_2 : List UInt8 := dkwX12_find_2 ++ dktX12_find_3
def dkwX12_find_1 : List UInt8 := [153, 0, 10, 42, 180, 0, 11, 28, 50, 176, 132, 2, 1, 167, 255, 222, 3, 61, 28, 42, 180, 0, 47]
abbrev dktX12_find_1 : List UInt8 := dkwX12_find_1 ++ dktX12_find_2
def dkwX12_find_0 : List UInt8 := [3, 61, 28, 42, 180, 0, 33, 162, 0, 32, 42, 180, 0, 11, 28, 50, 180, 0, 37, 43, 182, 0, 41]
abbrev dktX12_find_0 : List UInt8 := dkwX12_find_0 ++ dktX12_find_1
theorem dksX12_find_0 : cX12_find.data.toList.drop 0 = dktX12_find_0 := by decide +kernel
theorem dksX12_find_1 : cX12_find.data.toList.drop 23 = dktX12_find_1 := dk_seg dksX12_find_0 23 rfl rfl
theorem dksX12_find_2 : cX12_find.data.toList.drop 46 = dktX12_find_2 := dk_seg dksX12_find_1 23 rfl rfl
theorem dksX12_find_3 : cX12_find.data.toList.drop 70 = dktX12_find_3 := dk_seg dksX12_find_2 24 rfl rfl
theorem dX12_find_0 : decode cX12_find 0 = .ok (.iconst 0, 1) := dk_3 (dk_at dksX12_find_0 0 rfl rfl)
theorem dX12_find_1 : decode cX12_find 1 = .ok (.istore_n 2, 1) := dk_61 (dk_at dksX12_find_0 1 rfl rfl)
theorem dX12_find_2 : decode cX12_find 2 = .ok (.iload_n 2, 1) := dk_28 (dk_at dksX12_find_0 2 rfl rfl)
theorem dX12_find_3 : decode cX12_find 3 = .ok (.aload_n 0, 1) := dk_42 (dk_at dksX12_find_0 3 rfl rfl)
theorem dX12_find_4 : decode cX12_find 4 = .ok (.getfield 33, 3) := dk_180 0 33 (dk_at dksX12_find_0 4 rfl rfl)
theorem dX12_find_7 : decode cX12_find 7 = .ok (.if_icmp .ge 32, 3) := dk_162 0 32 (dk_at dksX12_find_0 7 rfl rfl)
theorem dX12_find_10 : decode cX12_find 10 = .ok (.aload_n 0, 1) := dk_42 (dk_at dksX12_find_0 10 rfl rfl)
theorem dX12_find_11 : decode cX12_find 11 = .ok (.getfield 11, 3) := dk_180 0 11 (dk_at dksX12_find_0 11 rfl rfl)
theorem dX12_find_14 : decode cX12_find 14 = .ok (.iload_n 2, 1) := dk_28 (dk_at dksX12_find_0 14 rfl rfl)
theorem dX12_find_15 : decode cX12_find 15 = .ok (.aaload, 1) := dk_50 (dk_at dksX12_find_0 15 rfl rfl)
theorem dX12_find_16 : decode cX12_find 16 = .ok (.getfield 37, 3) := dk_180 0 37 (dk_at dksX12_find_0 16 rfl rfl)
theorem dX12_find_19 : decode cX12_find 19 = .ok (.aload_n 1, 1) := dk_43 (dk_at dksX12_find_0 19 rfl rfl)
theorem dX12_find_20 : decode cX12_find 20 = .ok (.invokevirtual 41, 3) := dk_182 0 41 (dk_at dksX12_find_0 20 rfl rfl)
theorem dX12_find_23 : decode cX12_find 23 = .ok (.ifCond .eq 10, 3) := dk_153 0 10 (dk_at dksX12_find_1 0 rfl rfl)
theorem dX12_find_26 : decode cX12_find 26 = .ok (.aload_n 0, 1) := dk_42 (dk_at dksX12_find_1 3 rfl rfl)
theorem dX12_find_27 : decode cX12_find 27 = .ok (.getfield 11, 3) := dk_180 0 11 (dk_at dksX12_find_1 4 rfl rfl)
theorem dX12_find_30 : decode cX12_find 30 = .ok (.iload_n 2, 1) := dk_28 (dk_at dksX12_find_1 7 rfl rfl)
theorem dX12_find_31 : decode cX12_find 31 = .ok (.aaload, 1) := dk_50 (dk_at dksX12_find_1 8 rfl rfl)
theorem dX12_find_32 : decode cX12_find 32 = .ok (.areturn, 1) := dk_176 (dk_at dksX12_find_1 9 rfl rfl)
theorem dX12_find_33 : decode cX12_find 33 = .ok (.iinc 2 1, 3) := dk_132 2 1 (dk_at dksX12_find_1 10 rfl rfl)
theorem dX12_find_36 : decode cX12_find 36 = .ok (.goto (-34), 3) := dk_167 255 222 (dk_at dksX12_find_1 13 rfl rfl)
theorem dX12_find_39 : decode cX12_find 39 = .ok (.iconst 0, 1) := dk_3 (dk_at dksX12_find_1 16 rfl rfl)
theorem dX12_find_40 : decode cX12_find 40 = .ok (.istore_n 2, 1) := dk_61 (dk_at dksX12_find_1 17 rfl rfl)
theorem dX12_find_41 : decode cX12_find 41 = .ok (.iload_n 2, 1) := dk_28 (dk_at dksX12_find_1 18 rfl rfl)
theorem dX12_find_42 : decode cX12_find 42 = .ok (.aload_n 0, 1) := dk_42 (dk_at dksX12_find_1 19 rfl rfl)
theorem dX12_find_43 : decode cX12_find 43 = .ok (.getfield 47, 3) := dk_180 0 47 (dk_at dksX12_find_1 20 rfl rfl)
theorem dX12_find_46 : decode cX12_find 46 = .ok (.if_icmp .ge 32, 3) := dk_162 0 32 (dk_at dksX12_find_2 0 rfl rfl)
theorem dX12_find_49 : decode cX12_find 49 = .ok (.aload_n 0, 1) := dk_42 (dk_at dksX12_find_2 3 rfl rfl)
theorem dX12_find_50 : decode cX12_find 50 = .ok (.getfield 19, 3) := dk_180 0 19 (dk_at dksX12_find_2 4 rfl rfl)
theorem dX12_find_53 : decode cX12_find 53 = .ok (.iload_n 2, 1) := dk_28 (dk_at dksX12_find_2 7 rfl rfl)
theorem dX12_find_54 : decode cX12_find 54 = .ok (.aaload, 1) := dk_50 (dk_at dksX12_find_2 8 rfl rfl)
theorem dX12_find_55 : decode cX12_find 55 = .ok (.getfield 50, 3) := dk_180 0 50 (dk_at dksX12_find_2 9 rfl rfl)
theorem dX12_find_58 : decode cX12_find 58 = .ok (.aload_n 1, 1) := dk_43 (dk_at dksX12_find_2 12 rfl rfl)
theorem dX12_find_59 : decode cX12_find 59 = .ok (.invokevirtual 41, 3) := dk_182 0 41 (dk_at dksX12_find_2 13 rfl rfl)
theorem dX12_find_62 : decode cX12_find 62 = .ok (.ifCond .eq 10, 3) := dk_153 0 10 (dk_at dksX12_find_2 16 rfl rfl)
theorem dX12_find_65 : decode cX12_find 65 = .ok (.aload_n 0, 1) := dk_42 (dk_at dksX12_find_2 19 rfl rfl)
theorem dX12_find_66 : decode cX12_find 66 = .ok (.getfield 19, 3) := dk_180 0 19 (dk_at dksX12_find_2 20 rfl rfl)
theorem dX12_find_69 : decode cX12_find 69 = .ok (.iload_n 2, 1) := dk_28 (dk_at dksX12_find_2 23 rfl rfl)
theorem dX12_find_70 : decode cX12_find 70 = .ok (.aaload, 1) := dk_50 (dk_at dksX12_find_3 0 rfl rfl)
theorem dX12_find_71 : decode cX12_find 71 = .ok (.areturn, 1) := dk_176 (dk_at dksX12_find_3 1 rfl rfl)
theorem dX12_find_72 : decode cX12_find 72 = .ok (.iinc 2 1, 3) := dk_132 2 1 (dk_at dksX12_find_3 2 rfl rfl)
theorem dX12_find_75 : decode cX12_find 75 = .ok (.goto (-34), 3) := dk_167 255 222 (dk_at dksX12_find_3 5 rfl rfl)
theorem dX12_find_78 : decode cX12_find 78 = .ok (.aconst_null, 1) := dk_1 (dk_at dksX12_find_3 8 rfl rfl)
theorem dX12_find_79 : decode cX12_find 79 = .ok (.areturn, 1) := dk_176 (dk_at dksX12_find_3 9 rfl rfl)
abbrev cX12_street : ByteArray := prog_16_method_3_code
def yX12_street : MethodName := ⟨RX12, "street", "(II)I"⟩
def dkwX12_street_0 : List UInt8 := [42, 180, 0, 29, 16, 7, 27, 104, 28, 96, 46, 172]
abbrev dktX12_street_0 : List UInt8 := dkwX12_street_0 ++ []
theorem dksX12_street_0 : cX12_street.data.toList.drop 0 = dktX12_street_0 := by decide +kernel
theorem dX12_street_0 : decode cX12_street 0 = .ok (.aload_n 0, 1) := dk_42 (dk_at dksX12_street_0 0 rfl rfl)
theorem dX12_street_1 : decode cX12_street 1 = .ok (.getfield 29, 3) := dk_180 0 29 (dk_at dksX12_street_0 1 rfl rfl)
theorem dX12_street_4 : decode cX12_street 4 = .ok (.bipush 7, 2) := dk_16 7 (dk_at dksX12_street_0 4 rfl rfl)
theorem dX12_street_6 : decode cX12_street 6 = .ok (.iload_n 1, 1) := dk_27 (dk_at dksX12_street_0 6 rfl rfl)
theorem dX12_street_7 : decode cX12_street 7 = .ok (.imul, 1) := dk_104 (dk_at dksX12_street_0 7 rfl rfl)
theorem dX12_street_8 : decode cX12_street 8 = .ok (.iload_n 2, 1) := dk_28 (dk_at dksX12_street_0 8 rfl rfl)
theorem dX12_street_9 : decode cX12_street 9 = .ok (.iadd, 1) := dk_96 (dk_at dksX12_street_0 9 rfl rfl)
theorem dX12_street_10 : decode cX12_street 10 = .ok (.iaload, 1) := dk_46 (dk_at dksX12_street_0 10 rfl rfl)
theorem dX12_street_11 : decode cX12_street 11 = .ok (.ireturn, 1) := dk_172 (dk_at dksX12_street_0 11 rfl rfl)
abbrev cX12_noticeMany : ByteArray := prog_16_method_4_code
def yX12_noticeMany : MethodName := ⟨RX12, "noticeMany", "()I"⟩
def dkwX12_noticeMany_0 : List UInt8 := [42, 180, 0, 51, 42, 180, 0, 54, 96, 172]
abbrev dktX12_noticeMany_0 : List UInt8 := dkwX12_noticeMany_0 ++ []
theorem dksX12_noticeMany_0 : cX12_noticeMany.data.toList.drop 0 = dktX12_noticeMany_0 := by decide +kernel
theorem dX12_noticeMany_0 : decode cX12_noticeMany 0 = .ok (.aload_n 0, 1) := dk_42 (dk_at dksX12_noticeMany_0 0 rfl rfl)
theorem dX12_noticeMany_1 : decode cX12_noticeMany 1 = .ok (.getfield 51, 3) := dk_180 0 51 (dk_at dksX12_noticeMany_0 1 rfl rfl)
theorem dX12_noticeMany_4 : decode cX12_noticeMany 4 = .ok (.aload_n 0, 1) := dk_42 (dk_at dksX12_noticeMany_0 4 rfl rfl)
theorem dX12_noticeMany_5 : decode cX12_noticeMany 5 = .ok (.getfield 54, 3) := dk_180 0 54 (dk_at dksX12_noticeMany_0 5 rfl rfl)
theorem dX12_noticeMany_8 : decode cX12_noticeMany 8 = .ok (.iadd, 1) := dk_96 (dk_at dksX12_noticeMany_0 8 rfl rfl)
theorem dX12_noticeMany_9 : decode cX12_noticeMany 9 = .ok (.ireturn, 1) := dk_172 (dk_at dksX12_noticeMany_0 9 rfl rfl)
abbrev cX12_mayBe : ByteArray := prog_16_method_5_code
def yX12_mayBe : MethodName := ⟨RX12, "mayBe", "(II)Z"⟩
def dkwX12_mayBe_3 : List UInt8 := [29, 172]
abbrev dktX12_mayBe_3 : List UInt8 := dkwX12_mayBe_3 ++ []
def dkwX12_mayBe_2 : List UInt8 := [42, 180, 0, 11, 28, 50, 182, 0, 64, 153, 0, 7, 4, 167, 0, 4, 3, 62, 132, 4, 1, 167, 255, 201]
abbrev dktX12_mayBe_2 : List UInt8 := dkwX12_mayBe_2 ++ dktX12_mayBe_3
def dkwX12_mayBe_1 : List UInt8 := [153, 0, 40, 42, 180, 0, 25, 21, 4, 50, 180, 0, 61, 27, 160, 0, 22, 42, 180, 0, 25, 21, 4, 50]
abbrev dktX12_mayBe_1 : List UInt8 := dkwX12_mayBe_1 ++ dktX12_mayBe_2
def dkwX12_mayBe_0 : List UInt8 := [27, 28, 160, 0, 5, 3, 172, 4, 62, 3, 54, 4, 21, 4, 42, 182, 0, 57, 162, 0, 52, 29]
abbrev dktX12_mayBe_0 : List UInt8 := dkwX12_mayBe_0 ++ dktX12_mayBe_1
theorem dksX12_mayBe_0 : cX12_mayBe.data.toList.drop 0 = dktX12_mayBe_0 := by decide +kernel
theorem dksX12_mayBe_1 : cX12_mayBe.data.toList.drop 22 = dktX12_mayBe_1 := dk_seg dksX12_mayBe_0 22 rfl rfl
theorem dksX12_mayBe_2 : cX12_mayBe.data.toList.drop 46 = dktX12_mayBe_2 := dk_seg dksX12_mayBe_1 24 rfl rfl
theorem dksX12_mayBe_3 : cX12_mayBe.data.toList.drop 70 = dktX12_mayBe_3 := dk_seg dksX12_mayBe_2 24 rfl rfl
theorem dX12_mayBe_0 : decode cX12_mayBe 0 = .ok (.iload_n 1, 1) := dk_27 (dk_at dksX12_mayBe_0 0 rfl rfl)
theorem dX12_mayBe_1 : decode cX12_mayBe 1 = .ok (.iload_n 2, 1) := dk_28 (dk_at dksX12_mayBe_0 1 rfl rfl)
theorem dX12_mayBe_2 : decode cX12_mayBe 2 = .ok (.if_icmp .ne 5, 3) := dk_160 0 5 (dk_at dksX12_mayBe_0 2 rfl rfl)
theorem dX12_mayBe_5 : decode cX12_mayBe 5 = .ok (.iconst 0, 1) := dk_3 (dk_at dksX12_mayBe_0 5 rfl rfl)
theorem dX12_mayBe_6 : decode cX12_mayBe 6 = .ok (.ireturn, 1) := dk_172 (dk_at dksX12_mayBe_0 6 rfl rfl)
theorem dX12_mayBe_7 : decode cX12_mayBe 7 = .ok (.iconst 1, 1) := dk_4 (dk_at dksX12_mayBe_0 7 rfl rfl)
theorem dX12_mayBe_8 : decode cX12_mayBe 8 = .ok (.istore_n 3, 1) := dk_62 (dk_at dksX12_mayBe_0 8 rfl rfl)
theorem dX12_mayBe_9 : decode cX12_mayBe 9 = .ok (.iconst 0, 1) := dk_3 (dk_at dksX12_mayBe_0 9 rfl rfl)
theorem dX12_mayBe_10 : decode cX12_mayBe 10 = .ok (.istore 4, 2) := dk_54 4 (dk_at dksX12_mayBe_0 10 rfl rfl)
theorem dX12_mayBe_12 : decode cX12_mayBe 12 = .ok (.iload 4, 2) := dk_21 4 (dk_at dksX12_mayBe_0 12 rfl rfl)
theorem dX12_mayBe_14 : decode cX12_mayBe 14 = .ok (.aload_n 0, 1) := dk_42 (dk_at dksX12_mayBe_0 14 rfl rfl)
theorem dX12_mayBe_15 : decode cX12_mayBe 15 = .ok (.invokevirtual 57, 3) := dk_182 0 57 (dk_at dksX12_mayBe_0 15 rfl rfl)
theorem dX12_mayBe_18 : decode cX12_mayBe 18 = .ok (.if_icmp .ge 52, 3) := dk_162 0 52 (dk_at dksX12_mayBe_0 18 rfl rfl)
theorem dX12_mayBe_21 : decode cX12_mayBe 21 = .ok (.iload_n 3, 1) := dk_29 (dk_at dksX12_mayBe_0 21 rfl rfl)
theorem dX12_mayBe_22 : decode cX12_mayBe 22 = .ok (.ifCond .eq 40, 3) := dk_153 0 40 (dk_at dksX12_mayBe_1 0 rfl rfl)
theorem dX12_mayBe_25 : decode cX12_mayBe 25 = .ok (.aload_n 0, 1) := dk_42 (dk_at dksX12_mayBe_1 3 rfl rfl)
theorem dX12_mayBe_26 : decode cX12_mayBe 26 = .ok (.getfield 25, 3) := dk_180 0 25 (dk_at dksX12_mayBe_1 4 rfl rfl)
theorem dX12_mayBe_29 : decode cX12_mayBe 29 = .ok (.iload 4, 2) := dk_21 4 (dk_at dksX12_mayBe_1 7 rfl rfl)
theorem dX12_mayBe_31 : decode cX12_mayBe 31 = .ok (.aaload, 1) := dk_50 (dk_at dksX12_mayBe_1 9 rfl rfl)
theorem dX12_mayBe_32 : decode cX12_mayBe 32 = .ok (.getfield 61, 3) := dk_180 0 61 (dk_at dksX12_mayBe_1 10 rfl rfl)
theorem dX12_mayBe_35 : decode cX12_mayBe 35 = .ok (.iload_n 1, 1) := dk_27 (dk_at dksX12_mayBe_1 13 rfl rfl)
theorem dX12_mayBe_36 : decode cX12_mayBe 36 = .ok (.if_icmp .ne 22, 3) := dk_160 0 22 (dk_at dksX12_mayBe_1 14 rfl rfl)
theorem dX12_mayBe_39 : decode cX12_mayBe 39 = .ok (.aload_n 0, 1) := dk_42 (dk_at dksX12_mayBe_1 17 rfl rfl)
theorem dX12_mayBe_40 : decode cX12_mayBe 40 = .ok (.getfield 25, 3) := dk_180 0 25 (dk_at dksX12_mayBe_1 18 rfl rfl)
theorem dX12_mayBe_43 : decode cX12_mayBe 43 = .ok (.iload 4, 2) := dk_21 4 (dk_at dksX12_mayBe_1 21 rfl rfl)
theorem dX12_mayBe_45 : decode cX12_mayBe 45 = .ok (.aaload, 1) := dk_50 (dk_at dksX12_mayBe_1 23 rfl rfl)
theorem dX12_mayBe_46 : decode cX12_mayBe 46 = .ok (.aload_n 0, 1) := dk_42 (dk_at dksX12_mayBe_2 0 rfl rfl)
theorem dX12_mayBe_47 : decode cX12_mayBe 47 = .ok (.getfield 11, 3) := dk_180 0 11 (dk_at dksX12_mayBe_2 1 rfl rfl)
theorem dX12_mayBe_50 : decode cX12_mayBe 50 = .ok (.iload_n 2, 1) := dk_28 (dk_at dksX12_mayBe_2 4 rfl rfl)
theorem dX12_mayBe_51 : decode cX12_mayBe 51 = .ok (.aaload, 1) := dk_50 (dk_at dksX12_mayBe_2 5 rfl rfl)
theorem dX12_mayBe_52 : decode cX12_mayBe 52 = .ok (.invokevirtual 64, 3) := dk_182 0 64 (dk_at dksX12_mayBe_2 6 rfl rfl)
theorem dX12_mayBe_55 : decode cX12_mayBe 55 = .ok (.ifCond .eq 7, 3) := dk_153 0 7 (dk_at dksX12_mayBe_2 9 rfl rfl)
theorem dX12_mayBe_58 : decode cX12_mayBe 58 = .ok (.iconst 1, 1) := dk_4 (dk_at dksX12_mayBe_2 12 rfl rfl)
theorem dX12_mayBe_59 : decode cX12_mayBe 59 = .ok (.goto 4, 3) := dk_167 0 4 (dk_at dksX12_mayBe_2 13 rfl rfl)
theorem dX12_mayBe_62 : decode cX12_mayBe 62 = .ok (.iconst 0, 1) := dk_3 (dk_at dksX12_mayBe_2 16 rfl rfl)
theorem dX12_mayBe_63 : decode cX12_mayBe 63 = .ok (.istore_n 3, 1) := dk_62 (dk_at dksX12_mayBe_2 17 rfl rfl)
theorem dX12_mayBe_64 : decode cX12_mayBe 64 = .ok (.iinc 4 1, 3) := dk_132 4 1 (dk_at dksX12_mayBe_2 18 rfl rfl)
theorem dX12_mayBe_67 : decode cX12_mayBe 67 = .ok (.goto (-55), 3) := dk_167 255 201 (dk_at dksX12_mayBe_2 21 rfl rfl)
theorem dX12_mayBe_70 : decode cX12_mayBe 70 = .ok (.iload_n 3, 1) := dk_29 (dk_at dksX12_mayBe_3 0 rfl rfl)
theorem dX12_mayBe_71 : decode cX12_mayBe 71 = .ok (.ireturn, 1) := dk_172 (dk_at dksX12_mayBe_3 1 rfl rfl)
theorem q125 : (Jvm.Cond.initialized "WrongRoom$Town") ∈ lw_all := lw_g (lw_at lw_m1 15 rfl) rfl
theorem q493 : (Jvm.Cond.instantiable "WrongRoom$Town" (12 : Nat)) ∈ lw_all := lw_g (lw_at lw_m2 143 rfl) rfl
theorem q495 : (Jvm.Cond.instanceMethod ({ cls := "WrongRoom$Town", name := "<init>", desc := "()V" } : Jvm.MethodName)) ∈ lw_all := lw_g (lw_at lw_m2 145 rfl) rfl
theorem q496 : (Jvm.Cond.code ({ cls := "WrongRoom$Town", name := "<init>", desc := "()V" } : Jvm.MethodName) prog_16_method_1_code (1 : Nat) (Option.none : Option Jvm.ClassFile.FieldType)) ∈ lw_all := lw_g (lw_at lw_m2 146 rfl) rfl
theorem q497 : (Jvm.Cond.methodLink "WrongRoom$Town" (3 : Nat) ({ cls := "java/lang/Object", name := "<init>", desc := "()V" } : Jvm.MethodName)) ∈ lw_all := lw_g (lw_at lw_m2 147 rfl) rfl
theorem q498 : (Jvm.Cond.classLink "WrongRoom$Town" (9 : Nat) "WrongRoom$House") ∈ lw_all := lw_g (lw_at lw_m2 148 rfl) rfl
theorem q500 : (Jvm.Cond.classLink "WrongRoom$Town" (17 : Nat) "WrongRoom$Person") ∈ lw_all := lw_g (lw_at lw_m2 150 rfl) rfl
theorem q502 : (Jvm.Cond.classLink "WrongRoom$Town" (23 : Nat) "WrongRoom$Notice") ∈ lw_all := lw_g (lw_at lw_m2 152 rfl) rfl
theorem q504 : (Jvm.Cond.fieldLink "WrongRoom$Town" (11 : Nat) "WrongRoom$Town" "houses" "[LWrongRoom$House;") ∈ lw_all := lw_g (lw_at lw_m2 154 rfl) rfl
theorem q508 : (Jvm.Cond.fieldLink "WrongRoom$Town" (19 : Nat) "WrongRoom$Town" "people" "[LWrongRoom$Person;") ∈ lw_all := lw_g (lw_at lw_m2 158 rfl) rfl
theorem q512 : (Jvm.Cond.fieldLink "WrongRoom$Town" (25 : Nat) "WrongRoom$Town" "notices" "[LWrongRoom$Notice;") ∈ lw_all := lw_g (lw_at lw_m2 162 rfl) rfl
theorem q515 : (Jvm.Cond.fieldLink "WrongRoom$Town" (29 : Nat) "WrongRoom$Town" "streets" "[I") ∈ lw_all := lw_g (lw_at lw_m2 165 rfl) rfl
theorem q523 : (Jvm.Cond.fieldLink "WrongRoom$Town" (33 : Nat) "WrongRoom$Town" "houseMany" "I") ∈ lw_all := lw_g (lw_at lw_m2 173 rfl) rfl
theorem q534 : (Jvm.Cond.fieldLink "WrongRoom$Town" (47 : Nat) "WrongRoom$Town" "personMany" "I") ∈ lw_all := lw_g (lw_at lw_m2 184 rfl) rfl
theorem q538 : (Jvm.Cond.fieldLink "WrongRoom$Town" (51 : Nat) "WrongRoom$Town" "signMany" "I") ∈ lw_all := lw_g (lw_at lw_m2 188 rfl) rfl
theorem q541 : (Jvm.Cond.fieldLink "WrongRoom$Town" (54 : Nat) "WrongRoom$Town" "noiseMany" "I") ∈ lw_all := lw_g (lw_at lw_m2 191 rfl) rfl
theorem q544 : (Jvm.Cond.laysFinal "WrongRoom$Town" "WrongRoom$Town" "houses" "[LWrongRoom$House;") ∈ lw_all := lw_g (lw_at lw_m2 194 rfl) rfl
theorem q545 : (Jvm.Cond.soleField "WrongRoom$Town" "houses") ∈ lw_all := lw_g (lw_at lw_m2 195 rfl) rfl
theorem q546 : (Jvm.Cond.laysFinal "WrongRoom$Town" "WrongRoom$Town" "people" "[LWrongRoom$Person;") ∈ lw_all := lw_g (lw_at lw_m2 196 rfl) rfl
theorem q547 : (Jvm.Cond.soleField "WrongRoom$Town" "people") ∈ lw_all := lw_g (lw_at lw_m2 197 rfl) rfl
theorem q548 : (Jvm.Cond.laysFinal "WrongRoom$Town" "WrongRoom$Town" "notices" "[LWrongRoom$Notice;") ∈ lw_all := lw_g (lw_at lw_m2 198 rfl) rfl
theorem q549 : (Jvm.Cond.soleField "WrongRoom$Town" "notices") ∈ lw_all := lw_g (lw_at lw_m2 199 rfl) rfl
theorem q550 : (Jvm.Cond.laysFinal "WrongRoom$Town" "WrongRoom$Town" "streets" "[I") ∈ lw_all := lw_g (lw_at lw_m2 200 rfl) rfl
theorem q551 : (Jvm.Cond.soleField "WrongRoom$Town" "streets") ∈ lw_all := lw_g (lw_at lw_m2 201 rfl) rfl
theorem q552 : (Jvm.Cond.lays "WrongRoom$Town" "WrongRoom$Town" "door" "I") ∈ lw_all := lw_g (lw_at lw_m2 202 rfl) rfl
theorem q553 : (Jvm.Cond.soleField "WrongRoom$Town" "door") ∈ lw_all := lw_g (lw_at lw_m2 203 rfl) rfl
theorem q554 : (Jvm.Cond.lays "WrongRoom$Town" "WrongRoom$Town" "like" "I") ∈ lw_all := lw_g (lw_at lw_m2 204 rfl) rfl
theorem q555 : (Jvm.Cond.soleField "WrongRoom$Town" "like") ∈ lw_all := lw_g (lw_at lw_m2 205 rfl) rfl
theorem q556 : (Jvm.Cond.lays "WrongRoom$Town" "WrongRoom$Town" "houseMany" "I") ∈ lw_all := lw_g (lw_at lw_m2 206 rfl) rfl
theorem q557 : (Jvm.Cond.soleField "WrongRoom$Town" "houseMany") ∈ lw_all := lw_g (lw_at lw_m2 207 rfl) rfl
theorem q558 : (Jvm.Cond.lays "WrongRoom$Town" "WrongRoom$Town" "hoursMany" "I") ∈ lw_all := lw_g (lw_at lw_m2 208 rfl) rfl
theorem q559 : (Jvm.Cond.soleField "WrongRoom$Town" "hoursMany") ∈ lw_all := lw_g (lw_at lw_m2 209 rfl) rfl
theorem q560 : (Jvm.Cond.lays "WrongRoom$Town" "WrongRoom$Town" "streetMany" "I") ∈ lw_all := lw_g (lw_at lw_m2 210 rfl) rfl
theorem q561 : (Jvm.Cond.soleField "WrongRoom$Town" "streetMany") ∈ lw_all := lw_g (lw_at lw_m2 211 rfl) rfl
theorem q562 : (Jvm.Cond.lays "WrongRoom$Town" "WrongRoom$Town" "personMany" "I") ∈ lw_all := lw_g (lw_at lw_m2 212 rfl) rfl
theorem q563 : (Jvm.Cond.soleField "WrongRoom$Town" "personMany") ∈ lw_all := lw_g (lw_at lw_m2 213 rfl) rfl
theorem q564 : (Jvm.Cond.lays "WrongRoom$Town" "WrongRoom$Town" "signMany" "I") ∈ lw_all := lw_g (lw_at lw_m2 214 rfl) rfl
theorem q565 : (Jvm.Cond.soleField "WrongRoom$Town" "signMany") ∈ lw_all := lw_g (lw_at lw_m2 215 rfl) rfl
theorem q566 : (Jvm.Cond.lays "WrongRoom$Town" "WrongRoom$Town" "noiseMany" "I") ∈ lw_all := lw_g (lw_at lw_m2 216 rfl) rfl
theorem q567 : (Jvm.Cond.soleField "WrongRoom$Town" "noiseMany") ∈ lw_all := lw_g (lw_at lw_m2 217 rfl) rfl
theorem q568 : (Jvm.Cond.superclass "WrongRoom$Town" "java/lang/Object") ∈ lw_all := lw_g (lw_at lw_m2 218 rfl) rfl
theorem q785 : (Jvm.Cond.instanceMethod ({ cls := "WrongRoom$Town", name := "find", desc := "(Ljava/lang/String;)LWrongRoom$Named;" } : Jvm.MethodName)) ∈ lw_all := lw_g (lw_at lw_m3 195 rfl) rfl
theorem q786 : (Jvm.Cond.selects "WrongRoom$Town" ({ cls := "WrongRoom$Town", name := "find", desc := "(Ljava/lang/String;)LWrongRoom$Named;" } : Jvm.MethodName) ({ cls := "WrongRoom$Town", name := "find", desc := "(Ljava/lang/String;)LWrongRoom$Named;" } : Jvm.MethodName)) ∈ lw_all := lw_g (lw_at lw_m3 196 rfl) rfl
theorem q787 : (Jvm.Cond.code ({ cls := "WrongRoom$Town", name := "find", desc := "(Ljava/lang/String;)LWrongRoom$Named;" } : Jvm.MethodName) prog_16_method_2_code (3 : Nat) (Option.some (Jvm.ClassFile.FieldType.object "WrongRoom$Named"))) ∈ lw_all := lw_g (lw_at lw_m3 197 rfl) rfl
theorem q788 : (Jvm.Cond.methodLink "WrongRoom$Town" (41 : Nat) ({ cls := "java/lang/String", name := "equals", desc := "(Ljava/lang/Object;)Z" } : Jvm.MethodName)) ∈ lw_all := lw_g (lw_at lw_m3 198 rfl) rfl
theorem q815 : (Jvm.Cond.fieldLink "WrongRoom$Town" (37 : Nat) "WrongRoom$House" "name" "Ljava/lang/String;") ∈ lw_all := lw_g (lw_at lw_m3 225 rfl) rfl
theorem q817 : (Jvm.Cond.fieldLink "WrongRoom$Town" (50 : Nat) "WrongRoom$Person" "name" "Ljava/lang/String;") ∈ lw_all := lw_g (lw_at lw_m3 227 rfl) rfl
theorem q877 : (Jvm.Cond.instanceMethod ({ cls := "WrongRoom$Town", name := "street", desc := "(II)I" } : Jvm.MethodName)) ∈ lw_all := lw_g (lw_at lw_m4 47 rfl) rfl
theorem q878 : (Jvm.Cond.selects "WrongRoom$Town" ({ cls := "WrongRoom$Town", name := "street", desc := "(II)I" } : Jvm.MethodName) ({ cls := "WrongRoom$Town", name := "street", desc := "(II)I" } : Jvm.MethodName)) ∈ lw_all := lw_g (lw_at lw_m4 48 rfl) rfl
theorem q879 : (Jvm.Cond.code ({ cls := "WrongRoom$Town", name := "street", desc := "(II)I" } : Jvm.MethodName) prog_16_method_3_code (3 : Nat) (Option.some Jvm.ClassFile.FieldType.int)) ∈ lw_all := lw_g (lw_at lw_m4 49 rfl) rfl
theorem q919 : (Jvm.Cond.fieldLink "WrongRoom$Town" (61 : Nat) "WrongRoom$Notice" "house" "I") ∈ lw_all := lw_g (lw_at lw_m4 89 rfl) rfl
theorem q931 : (Jvm.Cond.instanceMethod ({ cls := "WrongRoom$Town", name := "noticeMany", desc := "()I" } : Jvm.MethodName)) ∈ lw_all := lw_g (lw_at lw_m4 101 rfl) rfl
theorem q932 : (Jvm.Cond.selects "WrongRoom$Town" ({ cls := "WrongRoom$Town", name := "noticeMany", desc := "()I" } : Jvm.MethodName) ({ cls := "WrongRoom$Town", name := "noticeMany", desc := "()I" } : Jvm.MethodName)) ∈ lw_all := lw_g (lw_at lw_m4 102 rfl) rfl
theorem q933 : (Jvm.Cond.code ({ cls := "WrongRoom$Town", name := "noticeMany", desc := "()I" } : Jvm.MethodName) prog_16_method_4_code (1 : Nat) (Option.some Jvm.ClassFile.FieldType.int)) ∈ lw_all := lw_g (lw_at lw_m4 103 rfl) rfl
theorem q1136 : (Jvm.Cond.instanceMethod ({ cls := "WrongRoom$Town", name := "mayBe", desc := "(II)Z" } : Jvm.MethodName)) ∈ lw_all := lw_g (lw_at lw_m5 66 rfl) rfl
theorem q1137 : (Jvm.Cond.selects "WrongRoom$Town" ({ cls := "WrongRoom$Town", name := "mayBe", desc := "(II)Z" } : Jvm.MethodName) ({ cls := "WrongRoom$Town", name := "mayBe", desc := "(II)Z" } : Jvm.MethodName)) ∈ lw_all := lw_g (lw_at lw_m5 67 rfl) rfl
theorem q1138 : (Jvm.Cond.code ({ cls := "WrongRoom$Town", name := "mayBe", desc := "(II)Z" } : Jvm.MethodName) prog_16_method_5_code (5 : Nat) (Option.some Jvm.ClassFile.FieldType.boolean)) ∈ lw_all := lw_g (lw_at lw_m5 68 rfl) rfl
theorem q1139 : (Jvm.Cond.methodLink "WrongRoom$Town" (57 : Nat) ({ cls := "WrongRoom$Town", name := "noticeMany", desc := "()I" } : Jvm.MethodName)) ∈ lw_all := lw_g (lw_at lw_m5 69 rfl) rfl
theorem q1140 : (Jvm.Cond.methodLink "WrongRoom$Town" (64 : Nat) ({ cls := "WrongRoom$Notice", name := "isOf", desc := "(LWrongRoom$House;)Z" } : Jvm.MethodName)) ∈ lw_all := lw_g (lw_at lw_m5 70 rfl) rfl
theorem q2178 : (Jvm.Cond.castable "WrongRoom$Town" "java/lang/Object") ∈ lw_tbl := lw_at lw_m9 148 rfl
theorem in_X12 : ∀ w ∈ wsX120, w ∈ lw_all := lw_in wsX120 [544, 546, 548, 550, 552, 554, 556, 558, 560, 562, 564, 566] (by decide +kernel) (by decide +kernel)
/-! java/lang/String -/
set_option maxRecDepth 100000
def RJ3 : String := "java/lang/String"
def TJ3 : u_T := fun k => match k with
  | 0 => ("java/lang/String", "value", "[B", true)
  | 1 => ("java/lang/String", "coder", "B", true)
  | 2 => ("java/lang/String", "hash", "I", false)
  | _ => ("java/lang/String", "hashIsZero", "Z", false)
def tyJ3 : Nat → FieldType := fun k => match k with
  | 0 => .array .byte
  | 1 => .byte
  | 2 => .int
  | _ => .boolean
abbrev wsJ30 : List Cond := u_ws RJ3 TJ3 4
theorem nmJ3 : ∀ a, a < 4 → ∀ b, b < 4 → a ≠ b → (TJ3 a).2.1 ≠ (TJ3 b).2.1 := by decide +kernel
theorem tyJ3_ok : ∀ k, k < 4 → parseFieldDescriptor (TJ3 k).2.2.1 = some (tyJ3 k) := by decide +kernel
abbrev cJ3_init : ByteArray := prog_27_method_4_code
def yJ3_init : MethodName := ⟨RJ3, "<init>", "([CII)V"⟩
def dkwJ3_init_0 : List UInt8 := [42, 43, 28, 29, 43, 28, 29, 184, 0, 30, 183, 0, 27, 177]
abbrev dktJ3_init_0 : List UInt8 := dkwJ3_init_0 ++ []
theorem dksJ3_init_0 : cJ3_init.data.toList.drop 0 = dktJ3_init_0 := by decide +kernel
theorem dJ3_init_0 : decode cJ3_init 0 = .ok (.aload_n 0, 1) := dk_42 (dk_at dksJ3_init_0 0 rfl rfl)
theorem dJ3_init_1 : decode cJ3_init 1 = .ok (.aload_n 1, 1) := dk_43 (dk_at dksJ3_init_0 1 rfl rfl)
theorem dJ3_init_2 : decode cJ3_init 2 = .ok (.iload_n 2, 1) := dk_28 (dk_at dksJ3_init_0 2 rfl rfl)
theorem dJ3_init_3 : decode cJ3_init 3 = .ok (.iload_n 3, 1) := dk_29 (dk_at dksJ3_init_0 3 rfl rfl)
theorem dJ3_init_4 : decode cJ3_init 4 = .ok (.aload_n 1, 1) := dk_43 (dk_at dksJ3_init_0 4 rfl rfl)
theorem dJ3_init_5 : decode cJ3_init 5 = .ok (.iload_n 2, 1) := dk_28 (dk_at dksJ3_init_0 5 rfl rfl)
theorem dJ3_init_6 : decode cJ3_init 6 = .ok (.iload_n 3, 1) := dk_29 (dk_at dksJ3_init_0 6 rfl rfl)
theorem dJ3_init_7 : decode cJ3_init 7 = .ok (.invokestatic 30, 3) := dk_184 0 30 (dk_at dksJ3_init_0 7 rfl rfl)
theorem dJ3_init_10 : decode cJ3_init 10 = .ok (.invokespecial 27, 3) := dk_183 0 27 (dk_at dksJ3_init_0 10 rfl rfl)
theorem dJ3_init_13 : decode cJ3_init 13 = .ok (.return_, 1) := dk_177 (dk_at dksJ3_init_0 13 rfl rfl)
abbrev cJ3_rangeCheck : ByteArray := prog_27_method_5_code
def yJ3_rangeCheck : MethodName := ⟨RJ3, "rangeCheck", "([CII)Ljava/lang/Void;"⟩
def dkwJ3_rangeCheck_0 : List UInt8 := [27, 28, 42, 190, 184, 0, 34, 87, 1, 176]
abbrev dktJ3_rangeCheck_0 : List UInt8 := dkwJ3_rangeCheck_0 ++ []
theorem dksJ3_rangeCheck_0 : cJ3_rangeCheck.data.toList.drop 0 = dktJ3_rangeCheck_0 := by decide +kernel
theorem dJ3_rangeCheck_0 : decode cJ3_rangeCheck 0 = .ok (.iload_n 1, 1) := dk_27 (dk_at dksJ3_rangeCheck_0 0 rfl rfl)
theorem dJ3_rangeCheck_1 : decode cJ3_rangeCheck 1 = .ok (.iload_n 2, 1) := dk_28 (dk_at dksJ3_rangeCheck_0 1 rfl rfl)
theorem dJ3_rangeCheck_2 : decode cJ3_rangeCheck 2 = .ok (.aload_n 0, 1) := dk_42 (dk_at dksJ3_rangeCheck_0 2 rfl rfl)
theorem dJ3_rangeCheck_3 : decode cJ3_rangeCheck 3 = .ok (.arraylength, 1) := dk_190 (dk_at dksJ3_rangeCheck_0 3 rfl rfl)
theorem dJ3_rangeCheck_4 : decode cJ3_rangeCheck 4 = .ok (.invokestatic 34, 3) := dk_184 0 34 (dk_at dksJ3_rangeCheck_0 4 rfl rfl)
theorem dJ3_rangeCheck_7 : decode cJ3_rangeCheck 7 = .ok (.pop, 1) := dk_87 (dk_at dksJ3_rangeCheck_0 7 rfl rfl)
theorem dJ3_rangeCheck_8 : decode cJ3_rangeCheck 8 = .ok (.aconst_null, 1) := dk_1 (dk_at dksJ3_rangeCheck_0 8 rfl rfl)
theorem dJ3_rangeCheck_9 : decode cJ3_rangeCheck 9 = .ok (.areturn, 1) := dk_176 (dk_at dksJ3_rangeCheck_0 9 rfl rfl)
abbrev cJ3_checkBoundsOffCount : ByteArray := prog_27_method_157_code
def yJ3_checkBoundsOffCount : MethodName := ⟨RJ3, "checkBoundsOffCount", "(III)I"⟩
def dkwJ3_checkBoundsOffCount_0 : List UInt8 := [26, 27, 28, 178, 4, 29, 184, 4, 41, 172]
abbrev dktJ3_checkBoundsOffCount_0 : List UInt8 := dkwJ3_checkBoundsOffCount_0 ++ []
theorem dksJ3_checkBoundsOffCount_0 : cJ3_checkBoundsOffCount.data.toList.drop 0 = dktJ3_checkBoundsOffCount_0 := by decide +kernel
theorem dJ3_checkBoundsOffCount_0 : decode cJ3_checkBoundsOffCount 0 = .ok (.iload_n 0, 1) := dk_26 (dk_at dksJ3_checkBoundsOffCount_0 0 rfl rfl)
theorem dJ3_checkBoundsOffCount_1 : decode cJ3_checkBoundsOffCount 1 = .ok (.iload_n 1, 1) := dk_27 (dk_at dksJ3_checkBoundsOffCount_0 1 rfl rfl)
theorem dJ3_checkBoundsOffCount_2 : decode cJ3_checkBoundsOffCount 2 = .ok (.iload_n 2, 1) := dk_28 (dk_at dksJ3_checkBoundsOffCount_0 2 rfl rfl)
theorem dJ3_checkBoundsOffCount_3 : decode cJ3_checkBoundsOffCount 3 = .ok (.getstatic 1053, 3) := dk_178 4 29 (dk_at dksJ3_checkBoundsOffCount_0 3 rfl rfl)
theorem dJ3_checkBoundsOffCount_6 : decode cJ3_checkBoundsOffCount 6 = .ok (.invokestatic 1065, 3) := dk_184 4 41 (dk_at dksJ3_checkBoundsOffCount_0 6 rfl rfl)
theorem dJ3_checkBoundsOffCount_9 : decode cJ3_checkBoundsOffCount 9 = .ok (.ireturn, 1) := dk_172 (dk_at dksJ3_checkBoundsOffCount_0 9 rfl rfl)
abbrev cJ3_init_2 : ByteArray := prog_27_method_149_code
def yJ3_init_2 : MethodName := ⟨RJ3, "<init>", "([CIILjava/lang/Void;)V"⟩
def dkwJ3_init_2_3 : List UInt8 := [184, 0, 180, 181, 0, 9, 177]
abbrev dktJ3_init_2_3 : List UInt8 := dkwJ3_init_2_3 ++ []
def dkwJ3_init_2_2 : List UInt8 := [184, 0, 47, 181, 0, 15, 42, 25, 5, 181, 0, 9, 177, 42, 4, 181, 0, 15, 42, 43, 28, 29]
abbrev dktJ3_init_2_2 : List UInt8 := dkwJ3_init_2_2 ++ dktJ3_init_2_3
def dkwJ3_init_2_1 : List UInt8 := [181, 0, 15, 177, 178, 0, 38, 153, 0, 28, 43, 28, 29, 184, 0, 177, 58, 5, 42, 25, 5, 29]
abbrev dktJ3_init_2_1 : List UInt8 := dkwJ3_init_2_1 ++ dktJ3_init_2_2
def dkwJ3_init_2_0 : List UInt8 := [42, 183, 0, 1, 29, 154, 0, 22, 42, 18, 7, 180, 0, 9, 181, 0, 9, 42, 18, 7, 180, 0, 15]
abbrev dktJ3_init_2_0 : List UInt8 := dkwJ3_init_2_0 ++ dktJ3_init_2_1
theorem dksJ3_init_2_0 : cJ3_init_2.data.toList.drop 0 = dktJ3_init_2_0 := by decide +kernel
theorem dksJ3_init_2_1 : cJ3_init_2.data.toList.drop 23 = dktJ3_init_2_1 := dk_seg dksJ3_init_2_0 23 rfl rfl
theorem dksJ3_init_2_2 : cJ3_init_2.data.toList.drop 45 = dktJ3_init_2_2 := dk_seg dksJ3_init_2_1 22 rfl rfl
theorem dksJ3_init_2_3 : cJ3_init_2.data.toList.drop 67 = dktJ3_init_2_3 := dk_seg dksJ3_init_2_2 22 rfl rfl
theorem dJ3_init_2_0 : decode cJ3_init_2 0 = .ok (.aload_n 0, 1) := dk_42 (dk_at dksJ3_init_2_0 0 rfl rfl)
theorem dJ3_init_2_1 : decode cJ3_init_2 1 = .ok (.invokespecial 1, 3) := dk_183 0 1 (dk_at dksJ3_init_2_0 1 rfl rfl)
theorem dJ3_init_2_4 : decode cJ3_init_2 4 = .ok (.iload_n 3, 1) := dk_29 (dk_at dksJ3_init_2_0 4 rfl rfl)
theorem dJ3_init_2_5 : decode cJ3_init_2 5 = .ok (.ifCond .ne 22, 3) := dk_154 0 22 (dk_at dksJ3_init_2_0 5 rfl rfl)
theorem dJ3_init_2_8 : decode cJ3_init_2 8 = .ok (.aload_n 0, 1) := dk_42 (dk_at dksJ3_init_2_0 8 rfl rfl)
theorem dJ3_init_2_9 : decode cJ3_init_2 9 = .ok (.ldc 7, 2) := dk_18 7 (dk_at dksJ3_init_2_0 9 rfl rfl)
theorem dJ3_init_2_11 : decode cJ3_init_2 11 = .ok (.getfield 9, 3) := dk_180 0 9 (dk_at dksJ3_init_2_0 11 rfl rfl)
theorem dJ3_init_2_14 : decode cJ3_init_2 14 = .ok (.putfield 9, 3) := dk_181 0 9 (dk_at dksJ3_init_2_0 14 rfl rfl)
theorem dJ3_init_2_17 : decode cJ3_init_2 17 = .ok (.aload_n 0, 1) := dk_42 (dk_at dksJ3_init_2_0 17 rfl rfl)
theorem dJ3_init_2_18 : decode cJ3_init_2 18 = .ok (.ldc 7, 2) := dk_18 7 (dk_at dksJ3_init_2_0 18 rfl rfl)
theorem dJ3_init_2_20 : decode cJ3_init_2 20 = .ok (.getfield 15, 3) := dk_180 0 15 (dk_at dksJ3_init_2_0 20 rfl rfl)
theorem dJ3_init_2_23 : decode cJ3_init_2 23 = .ok (.putfield 15, 3) := dk_181 0 15 (dk_at dksJ3_init_2_1 0 rfl rfl)
theorem dJ3_init_2_26 : decode cJ3_init_2 26 = .ok (.return_, 1) := dk_177 (dk_at dksJ3_init_2_1 3 rfl rfl)
theorem dJ3_init_2_27 : decode cJ3_init_2 27 = .ok (.getstatic 38, 3) := dk_178 0 38 (dk_at dksJ3_init_2_1 4 rfl rfl)
theorem dJ3_init_2_30 : decode cJ3_init_2 30 = .ok (.ifCond .eq 28, 3) := dk_153 0 28 (dk_at dksJ3_init_2_1 7 rfl rfl)
theorem dJ3_init_2_33 : decode cJ3_init_2 33 = .ok (.aload_n 1, 1) := dk_43 (dk_at dksJ3_init_2_1 10 rfl rfl)
theorem dJ3_init_2_34 : decode cJ3_init_2 34 = .ok (.iload_n 2, 1) := dk_28 (dk_at dksJ3_init_2_1 11 rfl rfl)
theorem dJ3_init_2_35 : decode cJ3_init_2 35 = .ok (.iload_n 3, 1) := dk_29 (dk_at dksJ3_init_2_1 12 rfl rfl)
theorem dJ3_init_2_36 : decode cJ3_init_2 36 = .ok (.invokestatic 177, 3) := dk_184 0 177 (dk_at dksJ3_init_2_1 13 rfl rfl)
theorem dJ3_init_2_39 : decode cJ3_init_2 39 = .ok (.astore 5, 2) := dk_58 5 (dk_at dksJ3_init_2_1 16 rfl rfl)
theorem dJ3_init_2_41 : decode cJ3_init_2 41 = .ok (.aload_n 0, 1) := dk_42 (dk_at dksJ3_init_2_1 18 rfl rfl)
theorem dJ3_init_2_42 : decode cJ3_init_2 42 = .ok (.aload 5, 2) := dk_25 5 (dk_at dksJ3_init_2_1 19 rfl rfl)
theorem dJ3_init_2_44 : decode cJ3_init_2 44 = .ok (.iload_n 3, 1) := dk_29 (dk_at dksJ3_init_2_1 21 rfl rfl)
theorem dJ3_init_2_45 : decode cJ3_init_2 45 = .ok (.invokestatic 47, 3) := dk_184 0 47 (dk_at dksJ3_init_2_2 0 rfl rfl)
theorem dJ3_init_2_48 : decode cJ3_init_2 48 = .ok (.putfield 15, 3) := dk_181 0 15 (dk_at dksJ3_init_2_2 3 rfl rfl)
theorem dJ3_init_2_51 : decode cJ3_init_2 51 = .ok (.aload_n 0, 1) := dk_42 (dk_at dksJ3_init_2_2 6 rfl rfl)
theorem dJ3_init_2_52 : decode cJ3_init_2 52 = .ok (.aload 5, 2) := dk_25 5 (dk_at dksJ3_init_2_2 7 rfl rfl)
theorem dJ3_init_2_54 : decode cJ3_init_2 54 = .ok (.putfield 9, 3) := dk_181 0 9 (dk_at dksJ3_init_2_2 9 rfl rfl)
theorem dJ3_init_2_57 : decode cJ3_init_2 57 = .ok (.return_, 1) := dk_177 (dk_at dksJ3_init_2_2 12 rfl rfl)
theorem dJ3_init_2_58 : decode cJ3_init_2 58 = .ok (.aload_n 0, 1) := dk_42 (dk_at dksJ3_init_2_2 13 rfl rfl)
theorem dJ3_init_2_59 : decode cJ3_init_2 59 = .ok (.iconst 1, 1) := dk_4 (dk_at dksJ3_init_2_2 14 rfl rfl)
theorem dJ3_init_2_60 : decode cJ3_init_2 60 = .ok (.putfield 15, 3) := dk_181 0 15 (dk_at dksJ3_init_2_2 15 rfl rfl)
theorem dJ3_init_2_63 : decode cJ3_init_2 63 = .ok (.aload_n 0, 1) := dk_42 (dk_at dksJ3_init_2_2 18 rfl rfl)
theorem dJ3_init_2_64 : decode cJ3_init_2 64 = .ok (.aload_n 1, 1) := dk_43 (dk_at dksJ3_init_2_2 19 rfl rfl)
theorem dJ3_init_2_65 : decode cJ3_init_2 65 = .ok (.iload_n 2, 1) := dk_28 (dk_at dksJ3_init_2_2 20 rfl rfl)
theorem dJ3_init_2_66 : decode cJ3_init_2 66 = .ok (.iload_n 3, 1) := dk_29 (dk_at dksJ3_init_2_2 21 rfl rfl)
theorem dJ3_init_2_67 : decode cJ3_init_2 67 = .ok (.invokestatic 180, 3) := dk_184 0 180 (dk_at dksJ3_init_2_3 0 rfl rfl)
theorem dJ3_init_2_70 : decode cJ3_init_2 70 = .ok (.putfield 9, 3) := dk_181 0 9 (dk_at dksJ3_init_2_3 3 rfl rfl)
theorem dJ3_init_2_73 : decode cJ3_init_2 73 = .ok (.return_, 1) := dk_177 (dk_at dksJ3_init_2_3 6 rfl rfl)
abbrev cJ3_hashCode : ByteArray := prog_27_method_78_code
def yJ3_hashCode : MethodName := ⟨RJ3, "hashCode", "()I"⟩
def dkwJ3_hashCode_2 : List UInt8 := [181, 0, 23, 167, 0, 8, 42, 27, 181, 0, 19, 27, 172]
abbrev dktJ3_hashCode_2 : List UInt8 := dkwJ3_hashCode_2 ++ []
def dkwJ3_hashCode_1 : List UInt8 := [180, 0, 9, 184, 2, 116, 167, 0, 10, 42, 180, 0, 9, 184, 2, 120, 60, 27, 154, 0, 11, 42, 4]
abbrev dktJ3_hashCode_1 : List UInt8 := dkwJ3_hashCode_1 ++ dktJ3_hashCode_2
def dkwJ3_hashCode_0 : List UInt8 := [42, 180, 0, 19, 60, 27, 154, 0, 52, 42, 180, 0, 23, 154, 0, 45, 42, 182, 1, 236, 153, 0, 13, 42]
abbrev dktJ3_hashCode_0 : List UInt8 := dkwJ3_hashCode_0 ++ dktJ3_hashCode_1
theorem dksJ3_hashCode_0 : cJ3_hashCode.data.toList.drop 0 = dktJ3_hashCode_0 := by decide +kernel
theorem dksJ3_hashCode_1 : cJ3_hashCode.data.toList.drop 24 = dktJ3_hashCode_1 := dk_seg dksJ3_hashCode_0 24 rfl rfl
theorem dksJ3_hashCode_2 : cJ3_hashCode.data.toList.drop 47 = dktJ3_hashCode_2 := dk_seg dksJ3_hashCode_1 23 rfl rfl
theorem dJ3_hashCode_0 : decode cJ3_hashCode 0 = .ok (.aload_n 0, 1) := dk_42 (dk_at dksJ3_hashCode_0 0 rfl rfl)
theorem dJ3_hashCode_1 : decode cJ3_hashCode 1 = .ok (.getfield 19, 3) := dk_180 0 19 (dk_at dksJ3_hashCode_0 1 rfl rfl)
theorem dJ3_hashCode_4 : decode cJ3_hashCode 4 = .ok (.istore_n 1, 1) := dk_60 (dk_at dksJ3_hashCode_0 4 rfl rfl)
theorem dJ3_hashCode_5 : decode cJ3_hashCode 5 = .ok (.iload_n 1, 1) := dk_27 (dk_at dksJ3_hashCode_0 5 rfl rfl)
theorem dJ3_hashCode_6 : decode cJ3_hashCode 6 = .ok (.ifCond .ne 52, 3) := dk_154 0 52 (dk_at dksJ3_hashCode_0 6 rfl rfl)
theorem dJ3_hashCode_9 : decode cJ3_hashCode 9 = .ok (.aload_n 0, 1) := dk_42 (dk_at dksJ3_hashCode_0 9 rfl rfl)
theorem dJ3_hashCode_10 : decode cJ3_hashCode 10 = .ok (.getfield 23, 3) := dk_180 0 23 (dk_at dksJ3_hashCode_0 10 rfl rfl)
theorem dJ3_hashCode_13 : decode cJ3_hashCode 13 = .ok (.ifCond .ne 45, 3) := dk_154 0 45 (dk_at dksJ3_hashCode_0 13 rfl rfl)
theorem dJ3_hashCode_16 : decode cJ3_hashCode 16 = .ok (.aload_n 0, 1) := dk_42 (dk_at dksJ3_hashCode_0 16 rfl rfl)
theorem dJ3_hashCode_17 : decode cJ3_hashCode 17 = .ok (.invokevirtual 492, 3) := dk_182 1 236 (dk_at dksJ3_hashCode_0 17 rfl rfl)
theorem dJ3_hashCode_20 : decode cJ3_hashCode 20 = .ok (.ifCond .eq 13, 3) := dk_153 0 13 (dk_at dksJ3_hashCode_0 20 rfl rfl)
theorem dJ3_hashCode_23 : decode cJ3_hashCode 23 = .ok (.aload_n 0, 1) := dk_42 (dk_at dksJ3_hashCode_0 23 rfl rfl)
theorem dJ3_hashCode_24 : decode cJ3_hashCode 24 = .ok (.getfield 9, 3) := dk_180 0 9 (dk_at dksJ3_hashCode_1 0 rfl rfl)
theorem dJ3_hashCode_27 : decode cJ3_hashCode 27 = .ok (.invokestatic 628, 3) := dk_184 2 116 (dk_at dksJ3_hashCode_1 3 rfl rfl)
theorem dJ3_hashCode_30 : decode cJ3_hashCode 30 = .ok (.goto 10, 3) := dk_167 0 10 (dk_at dksJ3_hashCode_1 6 rfl rfl)
theorem dJ3_hashCode_33 : decode cJ3_hashCode 33 = .ok (.aload_n 0, 1) := dk_42 (dk_at dksJ3_hashCode_1 9 rfl rfl)
theorem dJ3_hashCode_34 : decode cJ3_hashCode 34 = .ok (.getfield 9, 3) := dk_180 0 9 (dk_at dksJ3_hashCode_1 10 rfl rfl)
theorem dJ3_hashCode_37 : decode cJ3_hashCode 37 = .ok (.invokestatic 632, 3) := dk_184 2 120 (dk_at dksJ3_hashCode_1 13 rfl rfl)
theorem dJ3_hashCode_40 : decode cJ3_hashCode 40 = .ok (.istore_n 1, 1) := dk_60 (dk_at dksJ3_hashCode_1 16 rfl rfl)
theorem dJ3_hashCode_41 : decode cJ3_hashCode 41 = .ok (.iload_n 1, 1) := dk_27 (dk_at dksJ3_hashCode_1 17 rfl rfl)
theorem dJ3_hashCode_42 : decode cJ3_hashCode 42 = .ok (.ifCond .ne 11, 3) := dk_154 0 11 (dk_at dksJ3_hashCode_1 18 rfl rfl)
theorem dJ3_hashCode_45 : decode cJ3_hashCode 45 = .ok (.aload_n 0, 1) := dk_42 (dk_at dksJ3_hashCode_1 21 rfl rfl)
theorem dJ3_hashCode_46 : decode cJ3_hashCode 46 = .ok (.iconst 1, 1) := dk_4 (dk_at dksJ3_hashCode_1 22 rfl rfl)
theorem dJ3_hashCode_47 : decode cJ3_hashCode 47 = .ok (.putfield 23, 3) := dk_181 0 23 (dk_at dksJ3_hashCode_2 0 rfl rfl)
theorem dJ3_hashCode_50 : decode cJ3_hashCode 50 = .ok (.goto 8, 3) := dk_167 0 8 (dk_at dksJ3_hashCode_2 3 rfl rfl)
theorem dJ3_hashCode_53 : decode cJ3_hashCode 53 = .ok (.aload_n 0, 1) := dk_42 (dk_at dksJ3_hashCode_2 6 rfl rfl)
theorem dJ3_hashCode_54 : decode cJ3_hashCode 54 = .ok (.iload_n 1, 1) := dk_27 (dk_at dksJ3_hashCode_2 7 rfl rfl)
theorem dJ3_hashCode_55 : decode cJ3_hashCode 55 = .ok (.putfield 19, 3) := dk_181 0 19 (dk_at dksJ3_hashCode_2 8 rfl rfl)
theorem dJ3_hashCode_58 : decode cJ3_hashCode 58 = .ok (.iload_n 1, 1) := dk_27 (dk_at dksJ3_hashCode_2 11 rfl rfl)
theorem dJ3_hashCode_59 : decode cJ3_hashCode 59 = .ok (.ireturn, 1) := dk_172 (dk_at dksJ3_hashCode_2 12 rfl rfl)
abbrev cJ3_isLatin1 : ByteArray := prog_27_method_154_code
def yJ3_isLatin1 : MethodName := ⟨RJ3, "isLatin1", "()Z"⟩
def dkwJ3_isLatin1_0 : List UInt8 := [178, 0, 38, 153, 0, 14, 42, 180, 0, 15, 154, 0, 7, 4, 167, 0, 4, 3, 172]
abbrev dktJ3_isLatin1_0 : List UInt8 := dkwJ3_isLatin1_0 ++ []
theorem dksJ3_isLatin1_0 : cJ3_isLatin1.data.toList.drop 0 = dktJ3_isLatin1_0 := by decide +kernel
theorem dJ3_isLatin1_0 : decode cJ3_isLatin1 0 = .ok (.getstatic 38, 3) := dk_178 0 38 (dk_at dksJ3_isLatin1_0 0 rfl rfl)
theorem dJ3_isLatin1_3 : decode cJ3_isLatin1 3 = .ok (.ifCond .eq 14, 3) := dk_153 0 14 (dk_at dksJ3_isLatin1_0 3 rfl rfl)
theorem dJ3_isLatin1_6 : decode cJ3_isLatin1 6 = .ok (.aload_n 0, 1) := dk_42 (dk_at dksJ3_isLatin1_0 6 rfl rfl)
theorem dJ3_isLatin1_7 : decode cJ3_isLatin1 7 = .ok (.getfield 15, 3) := dk_180 0 15 (dk_at dksJ3_isLatin1_0 7 rfl rfl)
theorem dJ3_isLatin1_10 : decode cJ3_isLatin1 10 = .ok (.ifCond .ne 7, 3) := dk_154 0 7 (dk_at dksJ3_isLatin1_0 10 rfl rfl)
theorem dJ3_isLatin1_13 : decode cJ3_isLatin1 13 = .ok (.iconst 1, 1) := dk_4 (dk_at dksJ3_isLatin1_0 13 rfl rfl)
theorem dJ3_isLatin1_14 : decode cJ3_isLatin1 14 = .ok (.goto 4, 3) := dk_167 0 4 (dk_at dksJ3_isLatin1_0 14 rfl rfl)
theorem dJ3_isLatin1_17 : decode cJ3_isLatin1 17 = .ok (.iconst 0, 1) := dk_3 (dk_at dksJ3_isLatin1_0 17 rfl rfl)
theorem dJ3_isLatin1_18 : decode cJ3_isLatin1 18 = .ok (.ireturn, 1) := dk_172 (dk_at dksJ3_isLatin1_0 18 rfl rfl)
abbrev cJ3_equals : ByteArray := prog_27_method_66_code
def yJ3_equals : MethodName := ⟨RJ3, "equals", "(Ljava/lang/Object;)Z"⟩
def dkwJ3_equals_2 : List UInt8 := [184, 2, 29, 153, 0, 7, 4, 167, 0, 4, 3, 172]
abbrev dktJ3_equals_2 : List UInt8 := dkwJ3_equals_2 ++ []
def dkwJ3_equals_1 : List UInt8 := [153, 0, 14, 42, 180, 0, 15, 44, 180, 0, 15, 160, 0, 21, 42, 180, 0, 9, 44, 180, 0, 9]
abbrev dktJ3_equals_1 : List UInt8 := dkwJ3_equals_1 ++ dktJ3_equals_2
def dkwJ3_equals_0 : List UInt8 := [42, 43, 166, 0, 5, 4, 172, 43, 193, 0, 10, 153, 0, 43, 43, 192, 0, 10, 77, 178, 0, 38]
abbrev dktJ3_equals_0 : List UInt8 := dkwJ3_equals_0 ++ dktJ3_equals_1
theorem dksJ3_equals_0 : cJ3_equals.data.toList.drop 0 = dktJ3_equals_0 := by decide +kernel
theorem dksJ3_equals_1 : cJ3_equals.data.toList.drop 22 = dktJ3_equals_1 := dk_seg dksJ3_equals_0 22 rfl rfl
theorem dksJ3_equals_2 : cJ3_equals.data.toList.drop 44 = dktJ3_equals_2 := dk_seg dksJ3_equals_1 22 rfl rfl
theorem dJ3_equals_0 : decode cJ3_equals 0 = .ok (.aload_n 0, 1) := dk_42 (dk_at dksJ3_equals_0 0 rfl rfl)
theorem dJ3_equals_1 : decode cJ3_equals 1 = .ok (.aload_n 1, 1) := dk_43 (dk_at dksJ3_equals_0 1 rfl rfl)
theorem dJ3_equals_2 : decode cJ3_equals 2 = .ok (.if_acmp .ne 5, 3) := dk_166 0 5 (dk_at dksJ3_equals_0 2 rfl rfl)
theorem dJ3_equals_5 : decode cJ3_equals 5 = .ok (.iconst 1, 1) := dk_4 (dk_at dksJ3_equals_0 5 rfl rfl)
theorem dJ3_equals_6 : decode cJ3_equals 6 = .ok (.ireturn, 1) := dk_172 (dk_at dksJ3_equals_0 6 rfl rfl)
theorem dJ3_equals_7 : decode cJ3_equals 7 = .ok (.aload_n 1, 1) := dk_43 (dk_at dksJ3_equals_0 7 rfl rfl)
theorem dJ3_equals_8 : decode cJ3_equals 8 = .ok (.instanceof 10, 3) := dk_193 0 10 (dk_at dksJ3_equals_0 8 rfl rfl)
theorem dJ3_equals_11 : decode cJ3_equals 11 = .ok (.ifCond .eq 43, 3) := dk_153 0 43 (dk_at dksJ3_equals_0 11 rfl rfl)
theorem dJ3_equals_14 : decode cJ3_equals 14 = .ok (.aload_n 1, 1) := dk_43 (dk_at dksJ3_equals_0 14 rfl rfl)
theorem dJ3_equals_15 : decode cJ3_equals 15 = .ok (.checkcast 10, 3) := dk_192 0 10 (dk_at dksJ3_equals_0 15 rfl rfl)
theorem dJ3_equals_18 : decode cJ3_equals 18 = .ok (.astore_n 2, 1) := dk_77 (dk_at dksJ3_equals_0 18 rfl rfl)
theorem dJ3_equals_19 : decode cJ3_equals 19 = .ok (.getstatic 38, 3) := dk_178 0 38 (dk_at dksJ3_equals_0 19 rfl rfl)
theorem dJ3_equals_22 : decode cJ3_equals 22 = .ok (.ifCond .eq 14, 3) := dk_153 0 14 (dk_at dksJ3_equals_1 0 rfl rfl)
theorem dJ3_equals_25 : decode cJ3_equals 25 = .ok (.aload_n 0, 1) := dk_42 (dk_at dksJ3_equals_1 3 rfl rfl)
theorem dJ3_equals_26 : decode cJ3_equals 26 = .ok (.getfield 15, 3) := dk_180 0 15 (dk_at dksJ3_equals_1 4 rfl rfl)
theorem dJ3_equals_29 : decode cJ3_equals 29 = .ok (.aload_n 2, 1) := dk_44 (dk_at dksJ3_equals_1 7 rfl rfl)
theorem dJ3_equals_30 : decode cJ3_equals 30 = .ok (.getfield 15, 3) := dk_180 0 15 (dk_at dksJ3_equals_1 8 rfl rfl)
theorem dJ3_equals_33 : decode cJ3_equals 33 = .ok (.if_icmp .ne 21, 3) := dk_160 0 21 (dk_at dksJ3_equals_1 11 rfl rfl)
theorem dJ3_equals_36 : decode cJ3_equals 36 = .ok (.aload_n 0, 1) := dk_42 (dk_at dksJ3_equals_1 14 rfl rfl)
theorem dJ3_equals_37 : decode cJ3_equals 37 = .ok (.getfield 9, 3) := dk_180 0 9 (dk_at dksJ3_equals_1 15 rfl rfl)
theorem dJ3_equals_40 : decode cJ3_equals 40 = .ok (.aload_n 2, 1) := dk_44 (dk_at dksJ3_equals_1 18 rfl rfl)
theorem dJ3_equals_41 : decode cJ3_equals 41 = .ok (.getfield 9, 3) := dk_180 0 9 (dk_at dksJ3_equals_1 19 rfl rfl)
theorem dJ3_equals_44 : decode cJ3_equals 44 = .ok (.invokestatic 541, 3) := dk_184 2 29 (dk_at dksJ3_equals_2 0 rfl rfl)
theorem dJ3_equals_47 : decode cJ3_equals 47 = .ok (.ifCond .eq 7, 3) := dk_153 0 7 (dk_at dksJ3_equals_2 3 rfl rfl)
theorem dJ3_equals_50 : decode cJ3_equals 50 = .ok (.iconst 1, 1) := dk_4 (dk_at dksJ3_equals_2 6 rfl rfl)
theorem dJ3_equals_51 : decode cJ3_equals 51 = .ok (.goto 4, 3) := dk_167 0 4 (dk_at dksJ3_equals_2 7 rfl rfl)
theorem dJ3_equals_54 : decode cJ3_equals 54 = .ok (.iconst 0, 1) := dk_3 (dk_at dksJ3_equals_2 10 rfl rfl)
theorem dJ3_equals_55 : decode cJ3_equals 55 = .ok (.ireturn, 1) := dk_172 (dk_at dksJ3_equals_2 11 rfl rfl)
abbrev cJ3_length : ByteArray := prog_27_method_54_code
def yJ3_length : MethodName := ⟨RJ3, "length", "()I"⟩
def dkwJ3_length_0 : List UInt8 := [42, 180, 0, 9, 190, 42, 182, 1, 79, 122, 172]
abbrev dktJ3_length_0 : List UInt8 := dkwJ3_length_0 ++ []
theorem dksJ3_length_0 : cJ3_length.data.toList.drop 0 = dktJ3_length_0 := by decide +kernel
theorem dJ3_length_0 : decode cJ3_length 0 = .ok (.aload_n 0, 1) := dk_42 (dk_at dksJ3_length_0 0 rfl rfl)
theorem dJ3_length_1 : decode cJ3_length 1 = .ok (.getfield 9, 3) := dk_180 0 9 (dk_at dksJ3_length_0 1 rfl rfl)
theorem dJ3_length_4 : decode cJ3_length 4 = .ok (.arraylength, 1) := dk_190 (dk_at dksJ3_length_0 4 rfl rfl)
theorem dJ3_length_5 : decode cJ3_length 5 = .ok (.aload_n 0, 1) := dk_42 (dk_at dksJ3_length_0 5 rfl rfl)
theorem dJ3_length_6 : decode cJ3_length 6 = .ok (.invokevirtual 335, 3) := dk_182 1 79 (dk_at dksJ3_length_0 6 rfl rfl)
theorem dJ3_length_9 : decode cJ3_length 9 = .ok (.ishr, 1) := dk_122 (dk_at dksJ3_length_0 9 rfl rfl)
theorem dJ3_length_10 : decode cJ3_length 10 = .ok (.ireturn, 1) := dk_172 (dk_at dksJ3_length_0 10 rfl rfl)
abbrev cJ3_coder : ByteArray := prog_27_method_152_code
def yJ3_coder : MethodName := ⟨RJ3, "coder", "()B"⟩
def dkwJ3_coder_0 : List UInt8 := [178, 0, 38, 153, 0, 10, 42, 180, 0, 15, 167, 0, 4, 4, 172]
abbrev dktJ3_coder_0 : List UInt8 := dkwJ3_coder_0 ++ []
theorem dksJ3_coder_0 : cJ3_coder.data.toList.drop 0 = dktJ3_coder_0 := by decide +kernel
theorem dJ3_coder_0 : decode cJ3_coder 0 = .ok (.getstatic 38, 3) := dk_178 0 38 (dk_at dksJ3_coder_0 0 rfl rfl)
theorem dJ3_coder_3 : decode cJ3_coder 3 = .ok (.ifCond .eq 10, 3) := dk_153 0 10 (dk_at dksJ3_coder_0 3 rfl rfl)
theorem dJ3_coder_6 : decode cJ3_coder 6 = .ok (.aload_n 0, 1) := dk_42 (dk_at dksJ3_coder_0 6 rfl rfl)
theorem dJ3_coder_7 : decode cJ3_coder 7 = .ok (.getfield 15, 3) := dk_180 0 15 (dk_at dksJ3_coder_0 7 rfl rfl)
theorem dJ3_coder_10 : decode cJ3_coder 10 = .ok (.goto 4, 3) := dk_167 0 4 (dk_at dksJ3_coder_0 10 rfl rfl)
theorem dJ3_coder_13 : decode cJ3_coder 13 = .ok (.iconst 1, 1) := dk_4 (dk_at dksJ3_coder_0 13 rfl rfl)
theorem dJ3_coder_14 : decode cJ3_coder 14 = .ok (.ireturn, 1) := dk_172 (dk_at dksJ3_coder_0 14 rfl rfl)
abbrev cJ3_charAt : ByteArray := prog_27_method_56_code
def yJ3_charAt : MethodName := ⟨RJ3, "charAt", "(I)C"⟩
def dkwJ3_charAt_1 : List UInt8 := [172]
abbrev dktJ3_charAt_1 : List UInt8 := dkwJ3_charAt_1 ++ []
def dkwJ3_charAt_0 : List UInt8 := [42, 182, 1, 236, 153, 0, 12, 42, 180, 0, 9, 27, 184, 1, 239, 172, 42, 180, 0, 9, 27, 184, 1, 242]
abbrev dktJ3_charAt_0 : List UInt8 := dkwJ3_charAt_0 ++ dktJ3_charAt_1
theorem dksJ3_charAt_0 : cJ3_charAt.data.toList.drop 0 = dktJ3_charAt_0 := by decide +kernel
theorem dksJ3_charAt_1 : cJ3_charAt.data.toList.drop 24 = dktJ3_charAt_1 := dk_seg dksJ3_charAt_0 24 rfl rfl
theorem dJ3_charAt_0 : decode cJ3_charAt 0 = .ok (.aload_n 0, 1) := dk_42 (dk_at dksJ3_charAt_0 0 rfl rfl)
theorem dJ3_charAt_1 : decode cJ3_charAt 1 = .ok (.invokevirtual 492, 3) := dk_182 1 236 (dk_at dksJ3_charAt_0 1 rfl rfl)
theorem dJ3_charAt_4 : decode cJ3_charAt 4 = .ok (.ifCond .eq 12, 3) := dk_153 0 12 (dk_at dksJ3_charAt_0 4 rfl rfl)
theorem dJ3_charAt_7 : decode cJ3_charAt 7 = .ok (.aload_n 0, 1) := dk_42 (dk_at dksJ3_charAt_0 7 rfl rfl)
theorem dJ3_charAt_8 : decode cJ3_charAt 8 = .ok (.getfield 9, 3) := dk_180 0 9 (dk_at dksJ3_charAt_0 8 rfl rfl)
theorem dJ3_charAt_11 : decode cJ3_charAt 11 = .ok (.iload_n 1, 1) := dk_27 (dk_at dksJ3_charAt_0 11 rfl rfl)
theorem dJ3_charAt_12 : decode cJ3_charAt 12 = .ok (.invokestatic 495, 3) := dk_184 1 239 (dk_at dksJ3_charAt_0 12 rfl rfl)
theorem dJ3_charAt_15 : decode cJ3_charAt 15 = .ok (.ireturn, 1) := dk_172 (dk_at dksJ3_charAt_0 15 rfl rfl)
theorem dJ3_charAt_16 : decode cJ3_charAt 16 = .ok (.aload_n 0, 1) := dk_42 (dk_at dksJ3_charAt_0 16 rfl rfl)
theorem dJ3_charAt_17 : decode cJ3_charAt 17 = .ok (.getfield 9, 3) := dk_180 0 9 (dk_at dksJ3_charAt_0 17 rfl rfl)
theorem dJ3_charAt_20 : decode cJ3_charAt 20 = .ok (.iload_n 1, 1) := dk_27 (dk_at dksJ3_charAt_0 20 rfl rfl)
theorem dJ3_charAt_21 : decode cJ3_charAt 21 = .ok (.invokestatic 498, 3) := dk_184 1 242 (dk_at dksJ3_charAt_0 21 rfl rfl)
theorem dJ3_charAt_24 : decode cJ3_charAt 24 = .ok (.ireturn, 1) := dk_172 (dk_at dksJ3_charAt_1 0 rfl rfl)
abbrev cJ3_checkIndex : ByteArray := prog_27_method_155_code
def yJ3_checkIndex : MethodName := ⟨RJ3, "checkIndex", "(II)V"⟩
def dkwJ3_checkIndex_0 : List UInt8 := [26, 27, 178, 4, 29, 184, 4, 35, 87, 177]
abbrev dktJ3_checkIndex_0 : List UInt8 := dkwJ3_checkIndex_0 ++ []
theorem dksJ3_checkIndex_0 : cJ3_checkIndex.data.toList.drop 0 = dktJ3_checkIndex_0 := by decide +kernel
theorem dJ3_checkIndex_0 : decode cJ3_checkIndex 0 = .ok (.iload_n 0, 1) := dk_26 (dk_at dksJ3_checkIndex_0 0 rfl rfl)
theorem dJ3_checkIndex_1 : decode cJ3_checkIndex 1 = .ok (.iload_n 1, 1) := dk_27 (dk_at dksJ3_checkIndex_0 1 rfl rfl)
theorem dJ3_checkIndex_2 : decode cJ3_checkIndex 2 = .ok (.getstatic 1053, 3) := dk_178 4 29 (dk_at dksJ3_checkIndex_0 2 rfl rfl)
theorem dJ3_checkIndex_5 : decode cJ3_checkIndex 5 = .ok (.invokestatic 1059, 3) := dk_184 4 35 (dk_at dksJ3_checkIndex_0 5 rfl rfl)
theorem dJ3_checkIndex_8 : decode cJ3_checkIndex 8 = .ok (.pop, 1) := dk_87 (dk_at dksJ3_checkIndex_0 8 rfl rfl)
theorem dJ3_checkIndex_9 : decode cJ3_checkIndex 9 = .ok (.return_, 1) := dk_177 (dk_at dksJ3_checkIndex_0 9 rfl rfl)
theorem q126 : (Jvm.Cond.initialized "java/lang/String") ∈ lw_all := lw_g (lw_at lw_m1 16 rfl) rfl
theorem q582 : (Jvm.Cond.instantiable "java/lang/String" (4 : Nat)) ∈ lw_all := lw_g (lw_at lw_m2 232 rfl) rfl
theorem q584 : (Jvm.Cond.instanceMethod ({ cls := "java/lang/String", name := "<init>", desc := "([CII)V" } : Jvm.MethodName)) ∈ lw_all := lw_g (lw_at lw_m2 234 rfl) rfl
theorem q585 : (Jvm.Cond.code ({ cls := "java/lang/String", name := "<init>", desc := "([CII)V" } : Jvm.MethodName) prog_27_method_4_code (4 : Nat) (Option.none : Option Jvm.ClassFile.FieldType)) ∈ lw_all := lw_g (lw_at lw_m2 235 rfl) rfl
theorem q586 : (Jvm.Cond.methodLink "java/lang/String" (30 : Nat) ({ cls := "java/lang/String", name := "rangeCheck", desc := "([CII)Ljava/lang/Void;" } : Jvm.MethodName)) ∈ lw_all := lw_g (lw_at lw_m2 236 rfl) rfl
theorem q587 : (Jvm.Cond.static ({ cls := "java/lang/String", name := "rangeCheck", desc := "([CII)Ljava/lang/Void;" } : Jvm.MethodName)) ∈ lw_all := lw_g (lw_at lw_m2 237 rfl) rfl
theorem q588 : (Jvm.Cond.code ({ cls := "java/lang/String", name := "rangeCheck", desc := "([CII)Ljava/lang/Void;" } : Jvm.MethodName) prog_27_method_5_code (3 : Nat) (Option.some (Jvm.ClassFile.FieldType.object "java/lang/Void"))) ∈ lw_all := lw_g (lw_at lw_m2 238 rfl) rfl
theorem q589 : (Jvm.Cond.methodLink "java/lang/String" (34 : Nat) ({ cls := "java/lang/String", name := "checkBoundsOffCount", desc := "(III)I" } : Jvm.MethodName)) ∈ lw_all := lw_g (lw_at lw_m2 239 rfl) rfl
theorem q590 : (Jvm.Cond.static ({ cls := "java/lang/String", name := "checkBoundsOffCount", desc := "(III)I" } : Jvm.MethodName)) ∈ lw_all := lw_g (lw_at lw_m3 0 rfl) rfl
theorem q591 : (Jvm.Cond.code ({ cls := "java/lang/String", name := "checkBoundsOffCount", desc := "(III)I" } : Jvm.MethodName) prog_27_method_157_code (3 : Nat) (Option.some Jvm.ClassFile.FieldType.int)) ∈ lw_all := lw_g (lw_at lw_m3 1 rfl) rfl
theorem q592 : (Jvm.Cond.fieldLink "java/lang/String" (1053 : Nat) "jdk/internal/util/Preconditions" "SIOOBE_FORMATTER" "Ljava/util/function/BiFunction;") ∈ lw_all := lw_g (lw_at lw_m3 2 rfl) rfl
theorem q594 : (Jvm.Cond.methodLink "java/lang/String" (1065 : Nat) ({ cls := "jdk/internal/util/Preconditions", name := "checkFromIndexSize", desc := "(IIILjava/util/function/BiFunction;)I" } : Jvm.MethodName)) ∈ lw_all := lw_g (lw_at lw_m3 4 rfl) rfl
theorem q597 : (Jvm.Cond.methodLink "java/lang/String" (27 : Nat) ({ cls := "java/lang/String", name := "<init>", desc := "([CIILjava/lang/Void;)V" } : Jvm.MethodName)) ∈ lw_all := lw_g (lw_at lw_m3 7 rfl) rfl
theorem q598 : (Jvm.Cond.instanceMethod ({ cls := "java/lang/String", name := "<init>", desc := "([CIILjava/lang/Void;)V" } : Jvm.MethodName)) ∈ lw_all := lw_g (lw_at lw_m3 8 rfl) rfl
theorem q599 : (Jvm.Cond.code ({ cls := "java/lang/String", name := "<init>", desc := "([CIILjava/lang/Void;)V" } : Jvm.MethodName) prog_27_method_149_code (6 : Nat) (Option.none : Option Jvm.ClassFile.FieldType)) ∈ lw_all := lw_g (lw_at lw_m3 9 rfl) rfl
theorem q600 : (Jvm.Cond.methodLink "java/lang/String" (1 : Nat) ({ cls := "java/lang/Object", name := "<init>", desc := "()V" } : Jvm.MethodName)) ∈ lw_all := lw_g (lw_at lw_m3 10 rfl) rfl
theorem q601 : (Jvm.Cond.stringRef "java/lang/String" (7 : Nat) "") ∈ lw_tbl := lw_at lw_m3 11 rfl
theorem q602 : (Jvm.Cond.fieldLink "java/lang/String" (38 : Nat) "java/lang/String" "COMPACT_STRINGS" "Z") ∈ lw_all := lw_g (lw_at lw_m3 12 rfl) rfl
theorem q603 : (Jvm.Cond.laysStatic "java/lang/String" "COMPACT_STRINGS" "Z") ∈ lw_tbl := lw_at lw_m3 13 rfl
theorem q604 : (Jvm.Cond.methodLink "java/lang/String" (177 : Nat) ({ cls := "java/lang/StringUTF16", name := "compress", desc := "([CII)[B" } : Jvm.MethodName)) ∈ lw_all := lw_g (lw_at lw_m3 14 rfl) rfl
theorem q642 : (Jvm.Cond.methodLink "java/lang/String" (47 : Nat) ({ cls := "java/lang/StringUTF16", name := "coderFromArrayLen", desc := "([BI)B" } : Jvm.MethodName)) ∈ lw_all := lw_g (lw_at lw_m3 52 rfl) rfl
theorem q645 : (Jvm.Cond.methodLink "java/lang/String" (180 : Nat) ({ cls := "java/lang/StringUTF16", name := "toBytes", desc := "([CII)[B" } : Jvm.MethodName)) ∈ lw_all := lw_g (lw_at lw_m3 55 rfl) rfl
theorem q646 : (Jvm.Cond.fieldLink "java/lang/String" (9 : Nat) "java/lang/String" "value" "[B") ∈ lw_all := lw_g (lw_at lw_m3 56 rfl) rfl
theorem q647 : (Jvm.Cond.fieldLink "java/lang/String" (15 : Nat) "java/lang/String" "coder" "B") ∈ lw_all := lw_g (lw_at lw_m3 57 rfl) rfl
theorem q648 : (Jvm.Cond.fieldLink "java/lang/String" (19 : Nat) "java/lang/String" "hash" "I") ∈ lw_all := lw_g (lw_at lw_m3 58 rfl) rfl
theorem q649 : (Jvm.Cond.fieldLink "java/lang/String" (23 : Nat) "java/lang/String" "hashIsZero" "Z") ∈ lw_all := lw_g (lw_at lw_m3 59 rfl) rfl
theorem q650 : (Jvm.Cond.laysFinal "java/lang/String" "java/lang/String" "value" "[B") ∈ lw_all := lw_g (lw_at lw_m3 60 rfl) rfl
theorem q651 : (Jvm.Cond.soleField "java/lang/String" "value") ∈ lw_all := lw_g (lw_at lw_m3 61 rfl) rfl
theorem q652 : (Jvm.Cond.laysFinal "java/lang/String" "java/lang/String" "coder" "B") ∈ lw_all := lw_g (lw_at lw_m3 62 rfl) rfl
theorem q653 : (Jvm.Cond.soleField "java/lang/String" "coder") ∈ lw_all := lw_g (lw_at lw_m3 63 rfl) rfl
theorem q654 : (Jvm.Cond.lays "java/lang/String" "java/lang/String" "hash" "I") ∈ lw_all := lw_g (lw_at lw_m3 64 rfl) rfl
theorem q655 : (Jvm.Cond.soleField "java/lang/String" "hash") ∈ lw_all := lw_g (lw_at lw_m3 65 rfl) rfl
theorem q656 : (Jvm.Cond.lays "java/lang/String" "java/lang/String" "hashIsZero" "Z") ∈ lw_all := lw_g (lw_at lw_m3 66 rfl) rfl
theorem q657 : (Jvm.Cond.soleField "java/lang/String" "hashIsZero") ∈ lw_all := lw_g (lw_at lw_m3 67 rfl) rfl
theorem q658 : (Jvm.Cond.superclass "java/lang/String" "java/lang/Object") ∈ lw_all := lw_g (lw_at lw_m3 68 rfl) rfl
theorem q676 : (Jvm.Cond.instanceMethod ({ cls := "java/lang/String", name := "hashCode", desc := "()I" } : Jvm.MethodName)) ∈ lw_all := lw_g (lw_at lw_m3 86 rfl) rfl
theorem q677 : (Jvm.Cond.selects "java/lang/String" ({ cls := "java/lang/String", name := "hashCode", desc := "()I" } : Jvm.MethodName) ({ cls := "java/lang/String", name := "hashCode", desc := "()I" } : Jvm.MethodName)) ∈ lw_all := lw_g (lw_at lw_m3 87 rfl) rfl
theorem q678 : (Jvm.Cond.code ({ cls := "java/lang/String", name := "hashCode", desc := "()I" } : Jvm.MethodName) prog_27_method_78_code (2 : Nat) (Option.some Jvm.ClassFile.FieldType.int)) ∈ lw_all := lw_g (lw_at lw_m3 88 rfl) rfl
theorem q679 : (Jvm.Cond.methodLink "java/lang/String" (492 : Nat) ({ cls := "java/lang/String", name := "isLatin1", desc := "()Z" } : Jvm.MethodName)) ∈ lw_all := lw_g (lw_at lw_m3 89 rfl) rfl
theorem q680 : (Jvm.Cond.instanceMethod ({ cls := "java/lang/String", name := "isLatin1", desc := "()Z" } : Jvm.MethodName)) ∈ lw_all := lw_g (lw_at lw_m3 90 rfl) rfl
theorem q681 : (Jvm.Cond.selects "java/lang/String" ({ cls := "java/lang/String", name := "isLatin1", desc := "()Z" } : Jvm.MethodName) ({ cls := "java/lang/String", name := "isLatin1", desc := "()Z" } : Jvm.MethodName)) ∈ lw_all := lw_g (lw_at lw_m3 91 rfl) rfl
theorem q682 : (Jvm.Cond.code ({ cls := "java/lang/String", name := "isLatin1", desc := "()Z" } : Jvm.MethodName) prog_27_method_154_code (1 : Nat) (Option.some Jvm.ClassFile.FieldType.boolean)) ∈ lw_all := lw_g (lw_at lw_m3 92 rfl) rfl
theorem q683 : (Jvm.Cond.methodLink "java/lang/String" (628 : Nat) ({ cls := "java/lang/StringLatin1", name := "hashCode", desc := "([B)I" } : Jvm.MethodName)) ∈ lw_all := lw_g (lw_at lw_m3 93 rfl) rfl
theorem q724 : (Jvm.Cond.methodLink "java/lang/String" (632 : Nat) ({ cls := "java/lang/StringUTF16", name := "hashCode", desc := "([B)I" } : Jvm.MethodName)) ∈ lw_all := lw_g (lw_at lw_m3 134 rfl) rfl
theorem q730 : (Jvm.Cond.instanceMethod ({ cls := "java/lang/String", name := "equals", desc := "(Ljava/lang/Object;)Z" } : Jvm.MethodName)) ∈ lw_all := lw_g (lw_at lw_m3 140 rfl) rfl
theorem q731 : (Jvm.Cond.selects "java/lang/String" ({ cls := "java/lang/String", name := "equals", desc := "(Ljava/lang/Object;)Z" } : Jvm.MethodName) ({ cls := "java/lang/String", name := "equals", desc := "(Ljava/lang/Object;)Z" } : Jvm.MethodName)) ∈ lw_all := lw_g (lw_at lw_m3 141 rfl) rfl
theorem q732 : (Jvm.Cond.code ({ cls := "java/lang/String", name := "equals", desc := "(Ljava/lang/Object;)Z" } : Jvm.MethodName) prog_27_method_66_code (3 : Nat) (Option.some Jvm.ClassFile.FieldType.boolean)) ∈ lw_all := lw_g (lw_at lw_m3 142 rfl) rfl
theorem q733 : (Jvm.Cond.classLink "java/lang/String" (10 : Nat) "java/lang/String") ∈ lw_all := lw_g (lw_at lw_m3 143 rfl) rfl
theorem q734 : (Jvm.Cond.methodLink "java/lang/String" (541 : Nat) ({ cls := "java/lang/StringLatin1", name := "equals", desc := "([B[B)Z" } : Jvm.MethodName)) ∈ lw_all := lw_g (lw_at lw_m3 144 rfl) rfl
theorem q1679 : (Jvm.Cond.instanceMethod ({ cls := "java/lang/String", name := "length", desc := "()I" } : Jvm.MethodName)) ∈ lw_all := lw_g (lw_at lw_m7 129 rfl) rfl
theorem q1680 : (Jvm.Cond.selects "java/lang/String" ({ cls := "java/lang/String", name := "length", desc := "()I" } : Jvm.MethodName) ({ cls := "java/lang/String", name := "length", desc := "()I" } : Jvm.MethodName)) ∈ lw_all := lw_g (lw_at lw_m7 130 rfl) rfl
theorem q1681 : (Jvm.Cond.code ({ cls := "java/lang/String", name := "length", desc := "()I" } : Jvm.MethodName) prog_27_method_54_code (1 : Nat) (Option.some Jvm.ClassFile.FieldType.int)) ∈ lw_all := lw_g (lw_at lw_m7 131 rfl) rfl
theorem q1682 : (Jvm.Cond.methodLink "java/lang/String" (335 : Nat) ({ cls := "java/lang/String", name := "coder", desc := "()B" } : Jvm.MethodName)) ∈ lw_all := lw_g (lw_at lw_m7 132 rfl) rfl
theorem q1683 : (Jvm.Cond.instanceMethod ({ cls := "java/lang/String", name := "coder", desc := "()B" } : Jvm.MethodName)) ∈ lw_all := lw_g (lw_at lw_m7 133 rfl) rfl
theorem q1684 : (Jvm.Cond.selects "java/lang/String" ({ cls := "java/lang/String", name := "coder", desc := "()B" } : Jvm.MethodName) ({ cls := "java/lang/String", name := "coder", desc := "()B" } : Jvm.MethodName)) ∈ lw_all := lw_g (lw_at lw_m7 134 rfl) rfl
theorem q1685 : (Jvm.Cond.code ({ cls := "java/lang/String", name := "coder", desc := "()B" } : Jvm.MethodName) prog_27_method_152_code (1 : Nat) (Option.some Jvm.ClassFile.FieldType.byte)) ∈ lw_all := lw_g (lw_at lw_m7 135 rfl) rfl
theorem q1687 : (Jvm.Cond.instanceMethod ({ cls := "java/lang/String", name := "charAt", desc := "(I)C" } : Jvm.MethodName)) ∈ lw_all := lw_g (lw_at lw_m7 137 rfl) rfl
theorem q1688 : (Jvm.Cond.selects "java/lang/String" ({ cls := "java/lang/String", name := "charAt", desc := "(I)C" } : Jvm.MethodName) ({ cls := "java/lang/String", name := "charAt", desc := "(I)C" } : Jvm.MethodName)) ∈ lw_all := lw_g (lw_at lw_m7 138 rfl) rfl
theorem q1689 : (Jvm.Cond.code ({ cls := "java/lang/String", name := "charAt", desc := "(I)C" } : Jvm.MethodName) prog_27_method_56_code (2 : Nat) (Option.some Jvm.ClassFile.FieldType.char)) ∈ lw_all := lw_g (lw_at lw_m7 139 rfl) rfl
theorem q1690 : (Jvm.Cond.methodLink "java/lang/String" (495 : Nat) ({ cls := "java/lang/StringLatin1", name := "charAt", desc := "([BI)C" } : Jvm.MethodName)) ∈ lw_all := lw_g (lw_at lw_m7 140 rfl) rfl
theorem q1694 : (Jvm.Cond.static ({ cls := "java/lang/String", name := "checkIndex", desc := "(II)V" } : Jvm.MethodName)) ∈ lw_all := lw_g (lw_at lw_m7 144 rfl) rfl
theorem q1695 : (Jvm.Cond.code ({ cls := "java/lang/String", name := "checkIndex", desc := "(II)V" } : Jvm.MethodName) prog_27_method_155_code (2 : Nat) (Option.none : Option Jvm.ClassFile.FieldType)) ∈ lw_all := lw_g (lw_at lw_m7 145 rfl) rfl
theorem q1696 : (Jvm.Cond.methodLink "java/lang/String" (1059 : Nat) ({ cls := "jdk/internal/util/Preconditions", name := "checkIndex", desc := "(IILjava/util/function/BiFunction;)I" } : Jvm.MethodName)) ∈ lw_all := lw_g (lw_at lw_m7 146 rfl) rfl
theorem q1699 : (Jvm.Cond.methodLink "java/lang/String" (498 : Nat) ({ cls := "java/lang/StringUTF16", name := "charAt", desc := "([BI)C" } : Jvm.MethodName)) ∈ lw_all := lw_g (lw_at lw_m7 149 rfl) rfl
theorem q2179 : (Jvm.Cond.castable "java/lang/String" "java/lang/Object") ∈ lw_tbl := lw_at lw_m9 149 rfl
theorem in_J3 : ∀ w ∈ wsJ30, w ∈ lw_all := lw_in wsJ30 [650, 652, 654, 656] (by decide +kernel) (by decide +kernel)
/-! jdk/internal/util/Preconditions -/
set_option maxRecDepth 100000
def RJ4 : String := "jdk/internal/util/Preconditions"
abbrev cJ4_checkFromIndexSize : ByteArray := prog_38_method_13_code
def yJ4_checkFromIndexSize : MethodName := ⟨RJ4, "checkFromIndexSize", "(IIILjava/util/function/BiFunction;)I"⟩
def dkwJ4_checkFromIndexSize_1 : List UInt8 := [172]
abbrev dktJ4_checkFromIndexSize_1 : List UInt8 := dkwJ4_checkFromIndexSize_1 ++ []
def dkwJ4_checkFromIndexSize_0 : List UInt8 := [28, 26, 128, 27, 128, 155, 0, 10, 27, 28, 26, 100, 164, 0, 11, 45, 26, 27, 28, 184, 0, 103, 191, 26]
abbrev dktJ4_checkFromIndexSize_0 : List UInt8 := dkwJ4_checkFromIndexSize_0 ++ dktJ4_checkFromIndexSize_1
theorem dksJ4_checkFromIndexSize_0 : cJ4_checkFromIndexSize.data.toList.drop 0 = dktJ4_checkFromIndexSize_0 := by decide +kernel
theorem dksJ4_checkFromIndexSize_1 : cJ4_checkFromIndexSize.data.toList.drop 24 = dktJ4_checkFromIndexSize_1 := dk_seg dksJ4_checkFromIndexSize_0 24 rfl rfl
theorem dJ4_checkFromIndexSize_0 : decode cJ4_checkFromIndexSize 0 = .ok (.iload_n 2, 1) := dk_28 (dk_at dksJ4_checkFromIndexSize_0 0 rfl rfl)
theorem dJ4_checkFromIndexSize_1 : decode cJ4_checkFromIndexSize 1 = .ok (.iload_n 0, 1) := dk_26 (dk_at dksJ4_checkFromIndexSize_0 1 rfl rfl)
theorem dJ4_checkFromIndexSize_2 : decode cJ4_checkFromIndexSize 2 = .ok (.ior, 1) := dk_128 (dk_at dksJ4_checkFromIndexSize_0 2 rfl rfl)
theorem dJ4_checkFromIndexSize_3 : decode cJ4_checkFromIndexSize 3 = .ok (.iload_n 1, 1) := dk_27 (dk_at dksJ4_checkFromIndexSize_0 3 rfl rfl)
theorem dJ4_checkFromIndexSize_4 : decode cJ4_checkFromIndexSize 4 = .ok (.ior, 1) := dk_128 (dk_at dksJ4_checkFromIndexSize_0 4 rfl rfl)
theorem dJ4_checkFromIndexSize_5 : decode cJ4_checkFromIndexSize 5 = .ok (.ifCond .lt 10, 3) := dk_155 0 10 (dk_at dksJ4_checkFromIndexSize_0 5 rfl rfl)
theorem dJ4_checkFromIndexSize_8 : decode cJ4_checkFromIndexSize 8 = .ok (.iload_n 1, 1) := dk_27 (dk_at dksJ4_checkFromIndexSize_0 8 rfl rfl)
theorem dJ4_checkFromIndexSize_9 : decode cJ4_checkFromIndexSize 9 = .ok (.iload_n 2, 1) := dk_28 (dk_at dksJ4_checkFromIndexSize_0 9 rfl rfl)
theorem dJ4_checkFromIndexSize_10 : decode cJ4_checkFromIndexSize 10 = .ok (.iload_n 0, 1) := dk_26 (dk_at dksJ4_checkFromIndexSize_0 10 rfl rfl)
theorem dJ4_checkFromIndexSize_11 : decode cJ4_checkFromIndexSize 11 = .ok (.isub, 1) := dk_100 (dk_at dksJ4_checkFromIndexSize_0 11 rfl rfl)
theorem dJ4_checkFromIndexSize_12 : decode cJ4_checkFromIndexSize 12 = .ok (.if_icmp .le 11, 3) := dk_164 0 11 (dk_at dksJ4_checkFromIndexSize_0 12 rfl rfl)
theorem dJ4_checkFromIndexSize_15 : decode cJ4_checkFromIndexSize 15 = .ok (.aload_n 3, 1) := dk_45 (dk_at dksJ4_checkFromIndexSize_0 15 rfl rfl)
theorem dJ4_checkFromIndexSize_16 : decode cJ4_checkFromIndexSize 16 = .ok (.iload_n 0, 1) := dk_26 (dk_at dksJ4_checkFromIndexSize_0 16 rfl rfl)
theorem dJ4_checkFromIndexSize_17 : decode cJ4_checkFromIndexSize 17 = .ok (.iload_n 1, 1) := dk_27 (dk_at dksJ4_checkFromIndexSize_0 17 rfl rfl)
theorem dJ4_checkFromIndexSize_18 : decode cJ4_checkFromIndexSize 18 = .ok (.iload_n 2, 1) := dk_28 (dk_at dksJ4_checkFromIndexSize_0 18 rfl rfl)
theorem dJ4_checkFromIndexSize_19 : decode cJ4_checkFromIndexSize 19 = .ok (.invokestatic 103, 3) := dk_184 0 103 (dk_at dksJ4_checkFromIndexSize_0 19 rfl rfl)
theorem dJ4_checkFromIndexSize_22 : decode cJ4_checkFromIndexSize 22 = .ok (.athrow, 1) := dk_191 (dk_at dksJ4_checkFromIndexSize_0 22 rfl rfl)
theorem dJ4_checkFromIndexSize_23 : decode cJ4_checkFromIndexSize 23 = .ok (.iload_n 0, 1) := dk_26 (dk_at dksJ4_checkFromIndexSize_0 23 rfl rfl)
theorem dJ4_checkFromIndexSize_24 : decode cJ4_checkFromIndexSize 24 = .ok (.ireturn, 1) := dk_172 (dk_at dksJ4_checkFromIndexSize_1 0 rfl rfl)
abbrev cJ4_checkIndex : ByteArray := prog_38_method_11_code
def yJ4_checkIndex : MethodName := ⟨RJ4, "checkIndex", "(IILjava/util/function/BiFunction;)I"⟩
def dkwJ4_checkIndex_0 : List UInt8 := [26, 155, 0, 8, 26, 27, 161, 0, 10, 44, 26, 27, 184, 0, 95, 191, 26, 172]
abbrev dktJ4_checkIndex_0 : List UInt8 := dkwJ4_checkIndex_0 ++ []
theorem dksJ4_checkIndex_0 : cJ4_checkIndex.data.toList.drop 0 = dktJ4_checkIndex_0 := by decide +kernel
theorem dJ4_checkIndex_0 : decode cJ4_checkIndex 0 = .ok (.iload_n 0, 1) := dk_26 (dk_at dksJ4_checkIndex_0 0 rfl rfl)
theorem dJ4_checkIndex_1 : decode cJ4_checkIndex 1 = .ok (.ifCond .lt 8, 3) := dk_155 0 8 (dk_at dksJ4_checkIndex_0 1 rfl rfl)
theorem dJ4_checkIndex_4 : decode cJ4_checkIndex 4 = .ok (.iload_n 0, 1) := dk_26 (dk_at dksJ4_checkIndex_0 4 rfl rfl)
theorem dJ4_checkIndex_5 : decode cJ4_checkIndex 5 = .ok (.iload_n 1, 1) := dk_27 (dk_at dksJ4_checkIndex_0 5 rfl rfl)
theorem dJ4_checkIndex_6 : decode cJ4_checkIndex 6 = .ok (.if_icmp .lt 10, 3) := dk_161 0 10 (dk_at dksJ4_checkIndex_0 6 rfl rfl)
theorem dJ4_checkIndex_9 : decode cJ4_checkIndex 9 = .ok (.aload_n 2, 1) := dk_44 (dk_at dksJ4_checkIndex_0 9 rfl rfl)
theorem dJ4_checkIndex_10 : decode cJ4_checkIndex 10 = .ok (.iload_n 0, 1) := dk_26 (dk_at dksJ4_checkIndex_0 10 rfl rfl)
theorem dJ4_checkIndex_11 : decode cJ4_checkIndex 11 = .ok (.iload_n 1, 1) := dk_27 (dk_at dksJ4_checkIndex_0 11 rfl rfl)
theorem dJ4_checkIndex_12 : decode cJ4_checkIndex 12 = .ok (.invokestatic 95, 3) := dk_184 0 95 (dk_at dksJ4_checkIndex_0 12 rfl rfl)
theorem dJ4_checkIndex_15 : decode cJ4_checkIndex 15 = .ok (.athrow, 1) := dk_191 (dk_at dksJ4_checkIndex_0 15 rfl rfl)
theorem dJ4_checkIndex_16 : decode cJ4_checkIndex 16 = .ok (.iload_n 0, 1) := dk_26 (dk_at dksJ4_checkIndex_0 16 rfl rfl)
theorem dJ4_checkIndex_17 : decode cJ4_checkIndex 17 = .ok (.ireturn, 1) := dk_172 (dk_at dksJ4_checkIndex_0 17 rfl rfl)
theorem q127 : (Jvm.Cond.initialized "jdk/internal/util/Preconditions") ∈ lw_all := lw_g (lw_at lw_m1 17 rfl) rfl
theorem q593 : (Jvm.Cond.laysStatic "jdk/internal/util/Preconditions" "SIOOBE_FORMATTER" "Ljava/util/function/BiFunction;") ∈ lw_tbl := lw_at lw_m3 3 rfl
theorem q595 : (Jvm.Cond.static ({ cls := "jdk/internal/util/Preconditions", name := "checkFromIndexSize", desc := "(IIILjava/util/function/BiFunction;)I" } : Jvm.MethodName)) ∈ lw_all := lw_g (lw_at lw_m3 5 rfl) rfl
theorem q596 : (Jvm.Cond.code ({ cls := "jdk/internal/util/Preconditions", name := "checkFromIndexSize", desc := "(IIILjava/util/function/BiFunction;)I" } : Jvm.MethodName) prog_38_method_13_code (4 : Nat) (Option.some Jvm.ClassFile.FieldType.int)) ∈ lw_all := lw_g (lw_at lw_m3 6 rfl) rfl
theorem q1697 : (Jvm.Cond.static ({ cls := "jdk/internal/util/Preconditions", name := "checkIndex", desc := "(IILjava/util/function/BiFunction;)I" } : Jvm.MethodName)) ∈ lw_all := lw_g (lw_at lw_m7 147 rfl) rfl
theorem q1698 : (Jvm.Cond.code ({ cls := "jdk/internal/util/Preconditions", name := "checkIndex", desc := "(IILjava/util/function/BiFunction;)I" } : Jvm.MethodName) prog_38_method_11_code (3 : Nat) (Option.some Jvm.ClassFile.FieldType.int)) ∈ lw_all := lw_g (lw_at lw_m7 148 rfl) rfl
/-! java/lang/StringUTF16 -/
set_option maxRecDepth 100000
def RJ5 : String := "java/lang/StringUTF16"
abbrev cJ5_compress : ByteArray := prog_29_method_16_code
def yJ5_compress : MethodName := ⟨RJ5, "compress", "([CII)[B"⟩
def dkwJ5_compress_2 : List UInt8 := [184, 0, 123, 28, 159, 0, 6, 25, 5, 176, 45, 176]
abbrev dktJ5_compress_2 : List UInt8 := dkwJ5_compress_2 ++ []
def dkwJ5_compress_1 : List UInt8 := [184, 0, 119, 58, 5, 25, 5, 21, 4, 184, 0, 71, 17, 0, 255, 163, 0, 16, 25, 5, 3, 45, 3, 28]
abbrev dktJ5_compress_1 : List UInt8 := dkwJ5_compress_1 ++ dktJ5_compress_2
def dkwJ5_compress_0 : List UInt8 := [28, 188, 8, 78, 42, 27, 45, 3, 28, 184, 0, 115, 54, 4, 21, 4, 28, 159, 0, 40, 42, 27, 28]
abbrev dktJ5_compress_0 : List UInt8 := dkwJ5_compress_0 ++ dktJ5_compress_1
theorem dksJ5_compress_0 : cJ5_compress.data.toList.drop 0 = dktJ5_compress_0 := by decide +kernel
theorem dksJ5_compress_1 : cJ5_compress.data.toList.drop 23 = dktJ5_compress_1 := dk_seg dksJ5_compress_0 23 rfl rfl
theorem dksJ5_compress_2 : cJ5_compress.data.toList.drop 47 = dktJ5_compress_2 := dk_seg dksJ5_compress_1 24 rfl rfl
theorem dJ5_compress_0 : decode cJ5_compress 0 = .ok (.iload_n 2, 1) := dk_28 (dk_at dksJ5_compress_0 0 rfl rfl)
theorem dJ5_compress_1 : decode cJ5_compress 1 = .ok (.newarray .byte, 2) := dk_188_8 (dk_at dksJ5_compress_0 1 rfl rfl)
theorem dJ5_compress_3 : decode cJ5_compress 3 = .ok (.astore_n 3, 1) := dk_78 (dk_at dksJ5_compress_0 3 rfl rfl)
theorem dJ5_compress_4 : decode cJ5_compress 4 = .ok (.aload_n 0, 1) := dk_42 (dk_at dksJ5_compress_0 4 rfl rfl)
theorem dJ5_compress_5 : decode cJ5_compress 5 = .ok (.iload_n 1, 1) := dk_27 (dk_at dksJ5_compress_0 5 rfl rfl)
theorem dJ5_compress_6 : decode cJ5_compress 6 = .ok (.aload_n 3, 1) := dk_45 (dk_at dksJ5_compress_0 6 rfl rfl)
theorem dJ5_compress_7 : decode cJ5_compress 7 = .ok (.iconst 0, 1) := dk_3 (dk_at dksJ5_compress_0 7 rfl rfl)
theorem dJ5_compress_8 : decode cJ5_compress 8 = .ok (.iload_n 2, 1) := dk_28 (dk_at dksJ5_compress_0 8 rfl rfl)
theorem dJ5_compress_9 : decode cJ5_compress 9 = .ok (.invokestatic 115, 3) := dk_184 0 115 (dk_at dksJ5_compress_0 9 rfl rfl)
theorem dJ5_compress_12 : decode cJ5_compress 12 = .ok (.istore 4, 2) := dk_54 4 (dk_at dksJ5_compress_0 12 rfl rfl)
theorem dJ5_compress_14 : decode cJ5_compress 14 = .ok (.iload 4, 2) := dk_21 4 (dk_at dksJ5_compress_0 14 rfl rfl)
theorem dJ5_compress_16 : decode cJ5_compress 16 = .ok (.iload_n 2, 1) := dk_28 (dk_at dksJ5_compress_0 16 rfl rfl)
theorem dJ5_compress_17 : decode cJ5_compress 17 = .ok (.if_icmp .eq 40, 3) := dk_159 0 40 (dk_at dksJ5_compress_0 17 rfl rfl)
theorem dJ5_compress_20 : decode cJ5_compress 20 = .ok (.aload_n 0, 1) := dk_42 (dk_at dksJ5_compress_0 20 rfl rfl)
theorem dJ5_compress_21 : decode cJ5_compress 21 = .ok (.iload_n 1, 1) := dk_27 (dk_at dksJ5_compress_0 21 rfl rfl)
theorem dJ5_compress_22 : decode cJ5_compress 22 = .ok (.iload_n 2, 1) := dk_28 (dk_at dksJ5_compress_0 22 rfl rfl)
theorem dJ5_compress_23 : decode cJ5_compress 23 = .ok (.invokestatic 119, 3) := dk_184 0 119 (dk_at dksJ5_compress_1 0 rfl rfl)
theorem dJ5_compress_26 : decode cJ5_compress 26 = .ok (.astore 5, 2) := dk_58 5 (dk_at dksJ5_compress_1 3 rfl rfl)
theorem dJ5_compress_28 : decode cJ5_compress 28 = .ok (.aload 5, 2) := dk_25 5 (dk_at dksJ5_compress_1 5 rfl rfl)
theorem dJ5_compress_30 : decode cJ5_compress 30 = .ok (.iload 4, 2) := dk_21 4 (dk_at dksJ5_compress_1 7 rfl rfl)
theorem dJ5_compress_32 : decode cJ5_compress 32 = .ok (.invokestatic 71, 3) := dk_184 0 71 (dk_at dksJ5_compress_1 9 rfl rfl)
theorem dJ5_compress_35 : decode cJ5_compress 35 = .ok (.sipush 255, 3) := dk_17 0 255 (dk_at dksJ5_compress_1 12 rfl rfl)
theorem dJ5_compress_38 : decode cJ5_compress 38 = .ok (.if_icmp .gt 16, 3) := dk_163 0 16 (dk_at dksJ5_compress_1 15 rfl rfl)
theorem dJ5_compress_41 : decode cJ5_compress 41 = .ok (.aload 5, 2) := dk_25 5 (dk_at dksJ5_compress_1 18 rfl rfl)
theorem dJ5_compress_43 : decode cJ5_compress 43 = .ok (.iconst 0, 1) := dk_3 (dk_at dksJ5_compress_1 20 rfl rfl)
theorem dJ5_compress_44 : decode cJ5_compress 44 = .ok (.aload_n 3, 1) := dk_45 (dk_at dksJ5_compress_1 21 rfl rfl)
theorem dJ5_compress_45 : decode cJ5_compress 45 = .ok (.iconst 0, 1) := dk_3 (dk_at dksJ5_compress_1 22 rfl rfl)
theorem dJ5_compress_46 : decode cJ5_compress 46 = .ok (.iload_n 2, 1) := dk_28 (dk_at dksJ5_compress_1 23 rfl rfl)
theorem dJ5_compress_47 : decode cJ5_compress 47 = .ok (.invokestatic 123, 3) := dk_184 0 123 (dk_at dksJ5_compress_2 0 rfl rfl)
theorem dJ5_compress_50 : decode cJ5_compress 50 = .ok (.iload_n 2, 1) := dk_28 (dk_at dksJ5_compress_2 3 rfl rfl)
theorem dJ5_compress_51 : decode cJ5_compress 51 = .ok (.if_icmp .eq 6, 3) := dk_159 0 6 (dk_at dksJ5_compress_2 4 rfl rfl)
theorem dJ5_compress_54 : decode cJ5_compress 54 = .ok (.aload 5, 2) := dk_25 5 (dk_at dksJ5_compress_2 7 rfl rfl)
theorem dJ5_compress_56 : decode cJ5_compress 56 = .ok (.areturn, 1) := dk_176 (dk_at dksJ5_compress_2 9 rfl rfl)
theorem dJ5_compress_57 : decode cJ5_compress 57 = .ok (.aload_n 3, 1) := dk_45 (dk_at dksJ5_compress_2 10 rfl rfl)
theorem dJ5_compress_58 : decode cJ5_compress 58 = .ok (.areturn, 1) := dk_176 (dk_at dksJ5_compress_2 11 rfl rfl)
abbrev cJ5_compress_2 : ByteArray := prog_29_method_21_code
def yJ5_compress_2 : MethodName := ⟨RJ5, "compress", "([CI[BII)I"⟩
def dkwJ5_compress_2_1 : List UInt8 := [21, 5, 172, 44, 29, 21, 6, 145, 84, 132, 1, 1, 132, 3, 1, 132, 5, 1, 167, 255, 218, 21, 4, 172]
abbrev dktJ5_compress_2_1 : List UInt8 := dkwJ5_compress_2_1 ++ []
def dkwJ5_compress_2_0 : List UInt8 := [3, 54, 5, 21, 5, 21, 4, 162, 0, 37, 42, 27, 52, 54, 6, 21, 6, 17, 0, 255, 164, 0, 6]
abbrev dktJ5_compress_2_0 : List UInt8 := dkwJ5_compress_2_0 ++ dktJ5_compress_2_1
theorem dksJ5_compress_2_0 : cJ5_compress_2.data.toList.drop 0 = dktJ5_compress_2_0 := by decide +kernel
theorem dksJ5_compress_2_1 : cJ5_compress_2.data.toList.drop 23 = dktJ5_compress_2_1 := dk_seg dksJ5_compress_2_0 23 rfl rfl
theorem dJ5_compress_2_0 : decode cJ5_compress_2 0 = .ok (.iconst 0, 1) := dk_3 (dk_at dksJ5_compress_2_0 0 rfl rfl)
theorem dJ5_compress_2_1 : decode cJ5_compress_2 1 = .ok (.istore 5, 2) := dk_54 5 (dk_at dksJ5_compress_2_0 1 rfl rfl)
theorem dJ5_compress_2_3 : decode cJ5_compress_2 3 = .ok (.iload 5, 2) := dk_21 5 (dk_at dksJ5_compress_2_0 3 rfl rfl)
theorem dJ5_compress_2_5 : decode cJ5_compress_2 5 = .ok (.iload 4, 2) := dk_21 4 (dk_at dksJ5_compress_2_0 5 rfl rfl)
theorem dJ5_compress_2_7 : decode cJ5_compress_2 7 = .ok (.if_icmp .ge 37, 3) := dk_162 0 37 (dk_at dksJ5_compress_2_0 7 rfl rfl)
theorem dJ5_compress_2_10 : decode cJ5_compress_2 10 = .ok (.aload_n 0, 1) := dk_42 (dk_at dksJ5_compress_2_0 10 rfl rfl)
theorem dJ5_compress_2_11 : decode cJ5_compress_2 11 = .ok (.iload_n 1, 1) := dk_27 (dk_at dksJ5_compress_2_0 11 rfl rfl)
theorem dJ5_compress_2_12 : decode cJ5_compress_2 12 = .ok (.caload, 1) := dk_52 (dk_at dksJ5_compress_2_0 12 rfl rfl)
theorem dJ5_compress_2_13 : decode cJ5_compress_2 13 = .ok (.istore 6, 2) := dk_54 6 (dk_at dksJ5_compress_2_0 13 rfl rfl)
theorem dJ5_compress_2_15 : decode cJ5_compress_2 15 = .ok (.iload 6, 2) := dk_21 6 (dk_at dksJ5_compress_2_0 15 rfl rfl)
theorem dJ5_compress_2_17 : decode cJ5_compress_2 17 = .ok (.sipush 255, 3) := dk_17 0 255 (dk_at dksJ5_compress_2_0 17 rfl rfl)
theorem dJ5_compress_2_20 : decode cJ5_compress_2 20 = .ok (.if_icmp .le 6, 3) := dk_164 0 6 (dk_at dksJ5_compress_2_0 20 rfl rfl)
theorem dJ5_compress_2_23 : decode cJ5_compress_2 23 = .ok (.iload 5, 2) := dk_21 5 (dk_at dksJ5_compress_2_1 0 rfl rfl)
theorem dJ5_compress_2_25 : decode cJ5_compress_2 25 = .ok (.ireturn, 1) := dk_172 (dk_at dksJ5_compress_2_1 2 rfl rfl)
theorem dJ5_compress_2_26 : decode cJ5_compress_2 26 = .ok (.aload_n 2, 1) := dk_44 (dk_at dksJ5_compress_2_1 3 rfl rfl)
theorem dJ5_compress_2_27 : decode cJ5_compress_2 27 = .ok (.iload_n 3, 1) := dk_29 (dk_at dksJ5_compress_2_1 4 rfl rfl)
theorem dJ5_compress_2_28 : decode cJ5_compress_2 28 = .ok (.iload 6, 2) := dk_21 6 (dk_at dksJ5_compress_2_1 5 rfl rfl)
theorem dJ5_compress_2_30 : decode cJ5_compress_2 30 = .ok (.i2b, 1) := dk_145 (dk_at dksJ5_compress_2_1 7 rfl rfl)
theorem dJ5_compress_2_31 : decode cJ5_compress_2 31 = .ok (.bastore, 1) := dk_84 (dk_at dksJ5_compress_2_1 8 rfl rfl)
theorem dJ5_compress_2_32 : decode cJ5_compress_2 32 = .ok (.iinc 1 1, 3) := dk_132 1 1 (dk_at dksJ5_compress_2_1 9 rfl rfl)
theorem dJ5_compress_2_35 : decode cJ5_compress_2 35 = .ok (.iinc 3 1, 3) := dk_132 3 1 (dk_at dksJ5_compress_2_1 12 rfl rfl)
theorem dJ5_compress_2_38 : decode cJ5_compress_2 38 = .ok (.iinc 5 1, 3) := dk_132 5 1 (dk_at dksJ5_compress_2_1 15 rfl rfl)
theorem dJ5_compress_2_41 : decode cJ5_compress_2 41 = .ok (.goto (-38), 3) := dk_167 255 218 (dk_at dksJ5_compress_2_1 18 rfl rfl)
theorem dJ5_compress_2_44 : decode cJ5_compress_2 44 = .ok (.iload 4, 2) := dk_21 4 (dk_at dksJ5_compress_2_1 21 rfl rfl)
theorem dJ5_compress_2_46 : decode cJ5_compress_2 46 = .ok (.ireturn, 1) := dk_172 (dk_at dksJ5_compress_2_1 23 rfl rfl)
abbrev cJ5_toBytes : ByteArray := prog_29_method_14_code
def yJ5_toBytes : MethodName := ⟨RJ5, "toBytes", "([CII)[B"⟩
def dkwJ5_toBytes_1 : List UInt8 := [132, 1, 1, 132, 4, 1, 167, 255, 235, 45, 176]
abbrev dktJ5_toBytes_1 : List UInt8 := dkwJ5_toBytes_1 ++ []
def dkwJ5_toBytes_0 : List UInt8 := [28, 184, 0, 107, 78, 3, 54, 4, 21, 4, 28, 162, 0, 21, 45, 21, 4, 42, 27, 52, 184, 0, 111]
abbrev dktJ5_toBytes_0 : List UInt8 := dkwJ5_toBytes_0 ++ dktJ5_toBytes_1
theorem dksJ5_toBytes_0 : cJ5_toBytes.data.toList.drop 0 = dktJ5_toBytes_0 := by decide +kernel
theorem dksJ5_toBytes_1 : cJ5_toBytes.data.toList.drop 23 = dktJ5_toBytes_1 := dk_seg dksJ5_toBytes_0 23 rfl rfl
theorem dJ5_toBytes_0 : decode cJ5_toBytes 0 = .ok (.iload_n 2, 1) := dk_28 (dk_at dksJ5_toBytes_0 0 rfl rfl)
theorem dJ5_toBytes_1 : decode cJ5_toBytes 1 = .ok (.invokestatic 107, 3) := dk_184 0 107 (dk_at dksJ5_toBytes_0 1 rfl rfl)
theorem dJ5_toBytes_4 : decode cJ5_toBytes 4 = .ok (.astore_n 3, 1) := dk_78 (dk_at dksJ5_toBytes_0 4 rfl rfl)
theorem dJ5_toBytes_5 : decode cJ5_toBytes 5 = .ok (.iconst 0, 1) := dk_3 (dk_at dksJ5_toBytes_0 5 rfl rfl)
theorem dJ5_toBytes_6 : decode cJ5_toBytes 6 = .ok (.istore 4, 2) := dk_54 4 (dk_at dksJ5_toBytes_0 6 rfl rfl)
theorem dJ5_toBytes_8 : decode cJ5_toBytes 8 = .ok (.iload 4, 2) := dk_21 4 (dk_at dksJ5_toBytes_0 8 rfl rfl)
theorem dJ5_toBytes_10 : decode cJ5_toBytes 10 = .ok (.iload_n 2, 1) := dk_28 (dk_at dksJ5_toBytes_0 10 rfl rfl)
theorem dJ5_toBytes_11 : decode cJ5_toBytes 11 = .ok (.if_icmp .ge 21, 3) := dk_162 0 21 (dk_at dksJ5_toBytes_0 11 rfl rfl)
theorem dJ5_toBytes_14 : decode cJ5_toBytes 14 = .ok (.aload_n 3, 1) := dk_45 (dk_at dksJ5_toBytes_0 14 rfl rfl)
theorem dJ5_toBytes_15 : decode cJ5_toBytes 15 = .ok (.iload 4, 2) := dk_21 4 (dk_at dksJ5_toBytes_0 15 rfl rfl)
theorem dJ5_toBytes_17 : decode cJ5_toBytes 17 = .ok (.aload_n 0, 1) := dk_42 (dk_at dksJ5_toBytes_0 17 rfl rfl)
theorem dJ5_toBytes_18 : decode cJ5_toBytes 18 = .ok (.iload_n 1, 1) := dk_27 (dk_at dksJ5_toBytes_0 18 rfl rfl)
theorem dJ5_toBytes_19 : decode cJ5_toBytes 19 = .ok (.caload, 1) := dk_52 (dk_at dksJ5_toBytes_0 19 rfl rfl)
theorem dJ5_toBytes_20 : decode cJ5_toBytes 20 = .ok (.invokestatic 111, 3) := dk_184 0 111 (dk_at dksJ5_toBytes_0 20 rfl rfl)
theorem dJ5_toBytes_23 : decode cJ5_toBytes 23 = .ok (.iinc 1 1, 3) := dk_132 1 1 (dk_at dksJ5_toBytes_1 0 rfl rfl)
theorem dJ5_toBytes_26 : decode cJ5_toBytes 26 = .ok (.iinc 4 1, 3) := dk_132 4 1 (dk_at dksJ5_toBytes_1 3 rfl rfl)
theorem dJ5_toBytes_29 : decode cJ5_toBytes 29 = .ok (.goto (-21), 3) := dk_167 255 235 (dk_at dksJ5_toBytes_1 6 rfl rfl)
theorem dJ5_toBytes_32 : decode cJ5_toBytes 32 = .ok (.aload_n 3, 1) := dk_45 (dk_at dksJ5_toBytes_1 9 rfl rfl)
theorem dJ5_toBytes_33 : decode cJ5_toBytes 33 = .ok (.areturn, 1) := dk_176 (dk_at dksJ5_toBytes_1 10 rfl rfl)
abbrev cJ5_newBytesFor : ByteArray := prog_29_method_2_code
def yJ5_newBytesFor : MethodName := ⟨RJ5, "newBytesFor", "(I)[B"⟩
def dkwJ5_newBytesFor_0 : List UInt8 := [26, 184, 0, 11, 188, 8, 176]
abbrev dktJ5_newBytesFor_0 : List UInt8 := dkwJ5_newBytesFor_0 ++ []
theorem dksJ5_newBytesFor_0 : cJ5_newBytesFor.data.toList.drop 0 = dktJ5_newBytesFor_0 := by decide +kernel
theorem dJ5_newBytesFor_0 : decode cJ5_newBytesFor 0 = .ok (.iload_n 0, 1) := dk_26 (dk_at dksJ5_newBytesFor_0 0 rfl rfl)
theorem dJ5_newBytesFor_1 : decode cJ5_newBytesFor 1 = .ok (.invokestatic 11, 3) := dk_184 0 11 (dk_at dksJ5_newBytesFor_0 1 rfl rfl)
theorem dJ5_newBytesFor_4 : decode cJ5_newBytesFor 4 = .ok (.newarray .byte, 2) := dk_188_8 (dk_at dksJ5_newBytesFor_0 4 rfl rfl)
theorem dJ5_newBytesFor_6 : decode cJ5_newBytesFor 6 = .ok (.areturn, 1) := dk_176 (dk_at dksJ5_newBytesFor_0 6 rfl rfl)
abbrev cJ5_newBytesLength : ByteArray := prog_29_method_3_code
def yJ5_newBytesLength : MethodName := ⟨RJ5, "newBytesLength", "(I)I"⟩
def dkwJ5_newBytesLength_2 : List UInt8 := [182, 0, 32, 182, 0, 37, 183, 0, 41, 191, 26, 4, 120, 172]
abbrev dktJ5_newBytesLength_2 : List UInt8 := dkwJ5_newBytesLength_2 ++ []
def dkwJ5_newBytesLength_1 : List UInt8 := [187, 0, 23, 89, 183, 0, 25, 18, 26, 182, 0, 28, 26, 182, 0, 32, 18, 35, 182, 0, 28, 18, 20]
abbrev dktJ5_newBytesLength_1 : List UInt8 := dkwJ5_newBytesLength_1 ++ dktJ5_newBytesLength_2
def dkwJ5_newBytesLength_0 : List UInt8 := [26, 156, 0, 11, 187, 0, 17, 89, 183, 0, 19, 191, 26, 18, 20, 161, 0, 40, 187, 0, 21, 89]
abbrev dktJ5_newBytesLength_0 : List UInt8 := dkwJ5_newBytesLength_0 ++ dktJ5_newBytesLength_1
theorem dksJ5_newBytesLength_0 : cJ5_newBytesLength.data.toList.drop 0 = dktJ5_newBytesLength_0 := by decide +kernel
theorem dksJ5_newBytesLength_1 : cJ5_newBytesLength.data.toList.drop 22 = dktJ5_newBytesLength_1 := dk_seg dksJ5_newBytesLength_0 22 rfl rfl
theorem dksJ5_newBytesLength_2 : cJ5_newBytesLength.data.toList.drop 45 = dktJ5_newBytesLength_2 := dk_seg dksJ5_newBytesLength_1 23 rfl rfl
theorem dJ5_newBytesLength_0 : decode cJ5_newBytesLength 0 = .ok (.iload_n 0, 1) := dk_26 (dk_at dksJ5_newBytesLength_0 0 rfl rfl)
theorem dJ5_newBytesLength_1 : decode cJ5_newBytesLength 1 = .ok (.ifCond .ge 11, 3) := dk_156 0 11 (dk_at dksJ5_newBytesLength_0 1 rfl rfl)
theorem dJ5_newBytesLength_4 : decode cJ5_newBytesLength 4 = .ok (.new 17, 3) := dk_187 0 17 (dk_at dksJ5_newBytesLength_0 4 rfl rfl)
theorem dJ5_newBytesLength_7 : decode cJ5_newBytesLength 7 = .ok (.dup, 1) := dk_89 (dk_at dksJ5_newBytesLength_0 7 rfl rfl)
theorem dJ5_newBytesLength_8 : decode cJ5_newBytesLength 8 = .ok (.invokespecial 19, 3) := dk_183 0 19 (dk_at dksJ5_newBytesLength_0 8 rfl rfl)
theorem dJ5_newBytesLength_11 : decode cJ5_newBytesLength 11 = .ok (.athrow, 1) := dk_191 (dk_at dksJ5_newBytesLength_0 11 rfl rfl)
theorem dJ5_newBytesLength_12 : decode cJ5_newBytesLength 12 = .ok (.iload_n 0, 1) := dk_26 (dk_at dksJ5_newBytesLength_0 12 rfl rfl)
theorem dJ5_newBytesLength_13 : decode cJ5_newBytesLength 13 = .ok (.ldc 20, 2) := dk_18 20 (dk_at dksJ5_newBytesLength_0 13 rfl rfl)
theorem dJ5_newBytesLength_15 : decode cJ5_newBytesLength 15 = .ok (.if_icmp .lt 40, 3) := dk_161 0 40 (dk_at dksJ5_newBytesLength_0 15 rfl rfl)
theorem dJ5_newBytesLength_18 : decode cJ5_newBytesLength 18 = .ok (.new 21, 3) := dk_187 0 21 (dk_at dksJ5_newBytesLength_0 18 rfl rfl)
theorem dJ5_newBytesLength_21 : decode cJ5_newBytesLength 21 = .ok (.dup, 1) := dk_89 (dk_at dksJ5_newBytesLength_0 21 rfl rfl)
theorem dJ5_newBytesLength_22 : decode cJ5_newBytesLength 22 = .ok (.new 23, 3) := dk_187 0 23 (dk_at dksJ5_newBytesLength_1 0 rfl rfl)
theorem dJ5_newBytesLength_25 : decode cJ5_newBytesLength 25 = .ok (.dup, 1) := dk_89 (dk_at dksJ5_newBytesLength_1 3 rfl rfl)
theorem dJ5_newBytesLength_26 : decode cJ5_newBytesLength 26 = .ok (.invokespecial 25, 3) := dk_183 0 25 (dk_at dksJ5_newBytesLength_1 4 rfl rfl)
theorem dJ5_newBytesLength_29 : decode cJ5_newBytesLength 29 = .ok (.ldc 26, 2) := dk_18 26 (dk_at dksJ5_newBytesLength_1 7 rfl rfl)
theorem dJ5_newBytesLength_31 : decode cJ5_newBytesLength 31 = .ok (.invokevirtual 28, 3) := dk_182 0 28 (dk_at dksJ5_newBytesLength_1 9 rfl rfl)
theorem dJ5_newBytesLength_34 : decode cJ5_newBytesLength 34 = .ok (.iload_n 0, 1) := dk_26 (dk_at dksJ5_newBytesLength_1 12 rfl rfl)
theorem dJ5_newBytesLength_35 : decode cJ5_newBytesLength 35 = .ok (.invokevirtual 32, 3) := dk_182 0 32 (dk_at dksJ5_newBytesLength_1 13 rfl rfl)
theorem dJ5_newBytesLength_38 : decode cJ5_newBytesLength 38 = .ok (.ldc 35, 2) := dk_18 35 (dk_at dksJ5_newBytesLength_1 16 rfl rfl)
theorem dJ5_newBytesLength_40 : decode cJ5_newBytesLength 40 = .ok (.invokevirtual 28, 3) := dk_182 0 28 (dk_at dksJ5_newBytesLength_1 18 rfl rfl)
theorem dJ5_newBytesLength_43 : decode cJ5_newBytesLength 43 = .ok (.ldc 20, 2) := dk_18 20 (dk_at dksJ5_newBytesLength_1 21 rfl rfl)
theorem dJ5_newBytesLength_45 : decode cJ5_newBytesLength 45 = .ok (.invokevirtual 32, 3) := dk_182 0 32 (dk_at dksJ5_newBytesLength_2 0 rfl rfl)
theorem dJ5_newBytesLength_48 : decode cJ5_newBytesLength 48 = .ok (.invokevirtual 37, 3) := dk_182 0 37 (dk_at dksJ5_newBytesLength_2 3 rfl rfl)
theorem dJ5_newBytesLength_51 : decode cJ5_newBytesLength 51 = .ok (.invokespecial 41, 3) := dk_183 0 41 (dk_at dksJ5_newBytesLength_2 6 rfl rfl)
theorem dJ5_newBytesLength_54 : decode cJ5_newBytesLength 54 = .ok (.athrow, 1) := dk_191 (dk_at dksJ5_newBytesLength_2 9 rfl rfl)
theorem dJ5_newBytesLength_55 : decode cJ5_newBytesLength 55 = .ok (.iload_n 0, 1) := dk_26 (dk_at dksJ5_newBytesLength_2 10 rfl rfl)
theorem dJ5_newBytesLength_56 : decode cJ5_newBytesLength 56 = .ok (.iconst 1, 1) := dk_4 (dk_at dksJ5_newBytesLength_2 11 rfl rfl)
theorem dJ5_newBytesLength_57 : decode cJ5_newBytesLength 57 = .ok (.ishl, 1) := dk_120 (dk_at dksJ5_newBytesLength_2 12 rfl rfl)
theorem dJ5_newBytesLength_58 : decode cJ5_newBytesLength 58 = .ok (.ireturn, 1) := dk_172 (dk_at dksJ5_newBytesLength_2 13 rfl rfl)
abbrev cJ5_putChar : ByteArray := prog_29_method_4_code
def yJ5_putChar : MethodName := ⟨RJ5, "putChar", "([BII)V"⟩
def dkwJ5_putChar_2 : List UInt8 := [178, 0, 63, 122, 145, 84, 177]
abbrev dktJ5_putChar_2 : List UInt8 := dkwJ5_putChar_2 ++ []
def dkwJ5_putChar_1 : List UInt8 := [183, 0, 56, 191, 27, 4, 120, 60, 42, 27, 132, 1, 1, 28, 178, 0, 59, 122, 145, 84, 42, 27, 28]
abbrev dktJ5_putChar_1 : List UInt8 := dkwJ5_putChar_1 ++ dktJ5_putChar_2
def dkwJ5_putChar_0 : List UInt8 := [178, 0, 44, 154, 0, 25, 27, 155, 0, 11, 27, 42, 184, 0, 48, 161, 0, 13, 187, 0, 52, 89, 18, 54]
abbrev dktJ5_putChar_0 : List UInt8 := dkwJ5_putChar_0 ++ dktJ5_putChar_1
theorem dksJ5_putChar_0 : cJ5_putChar.data.toList.drop 0 = dktJ5_putChar_0 := by decide +kernel
theorem dksJ5_putChar_1 : cJ5_putChar.data.toList.drop 24 = dktJ5_putChar_1 := dk_seg dksJ5_putChar_0 24 rfl rfl
theorem dksJ5_putChar_2 : cJ5_putChar.data.toList.drop 47 = dktJ5_putChar_2 := dk_seg dksJ5_putChar_1 23 rfl rfl
theorem dJ5_putChar_0 : decode cJ5_putChar 0 = .ok (.getstatic 44, 3) := dk_178 0 44 (dk_at dksJ5_putChar_0 0 rfl rfl)
theorem dJ5_putChar_3 : decode cJ5_putChar 3 = .ok (.ifCond .ne 25, 3) := dk_154 0 25 (dk_at dksJ5_putChar_0 3 rfl rfl)
theorem dJ5_putChar_6 : decode cJ5_putChar 6 = .ok (.iload_n 1, 1) := dk_27 (dk_at dksJ5_putChar_0 6 rfl rfl)
theorem dJ5_putChar_7 : decode cJ5_putChar 7 = .ok (.ifCond .lt 11, 3) := dk_155 0 11 (dk_at dksJ5_putChar_0 7 rfl rfl)
theorem dJ5_putChar_10 : decode cJ5_putChar 10 = .ok (.iload_n 1, 1) := dk_27 (dk_at dksJ5_putChar_0 10 rfl rfl)
theorem dJ5_putChar_11 : decode cJ5_putChar 11 = .ok (.aload_n 0, 1) := dk_42 (dk_at dksJ5_putChar_0 11 rfl rfl)
theorem dJ5_putChar_12 : decode cJ5_putChar 12 = .ok (.invokestatic 48, 3) := dk_184 0 48 (dk_at dksJ5_putChar_0 12 rfl rfl)
theorem dJ5_putChar_15 : decode cJ5_putChar 15 = .ok (.if_icmp .lt 13, 3) := dk_161 0 13 (dk_at dksJ5_putChar_0 15 rfl rfl)
theorem dJ5_putChar_18 : decode cJ5_putChar 18 = .ok (.new 52, 3) := dk_187 0 52 (dk_at dksJ5_putChar_0 18 rfl rfl)
theorem dJ5_putChar_21 : decode cJ5_putChar 21 = .ok (.dup, 1) := dk_89 (dk_at dksJ5_putChar_0 21 rfl rfl)
theorem dJ5_putChar_22 : decode cJ5_putChar 22 = .ok (.ldc 54, 2) := dk_18 54 (dk_at dksJ5_putChar_0 22 rfl rfl)
theorem dJ5_putChar_24 : decode cJ5_putChar 24 = .ok (.invokespecial 56, 3) := dk_183 0 56 (dk_at dksJ5_putChar_1 0 rfl rfl)
theorem dJ5_putChar_27 : decode cJ5_putChar 27 = .ok (.athrow, 1) := dk_191 (dk_at dksJ5_putChar_1 3 rfl rfl)
theorem dJ5_putChar_28 : decode cJ5_putChar 28 = .ok (.iload_n 1, 1) := dk_27 (dk_at dksJ5_putChar_1 4 rfl rfl)
theorem dJ5_putChar_29 : decode cJ5_putChar 29 = .ok (.iconst 1, 1) := dk_4 (dk_at dksJ5_putChar_1 5 rfl rfl)
theorem dJ5_putChar_30 : decode cJ5_putChar 30 = .ok (.ishl, 1) := dk_120 (dk_at dksJ5_putChar_1 6 rfl rfl)
theorem dJ5_putChar_31 : decode cJ5_putChar 31 = .ok (.istore_n 1, 1) := dk_60 (dk_at dksJ5_putChar_1 7 rfl rfl)
theorem dJ5_putChar_32 : decode cJ5_putChar 32 = .ok (.aload_n 0, 1) := dk_42 (dk_at dksJ5_putChar_1 8 rfl rfl)
theorem dJ5_putChar_33 : decode cJ5_putChar 33 = .ok (.iload_n 1, 1) := dk_27 (dk_at dksJ5_putChar_1 9 rfl rfl)
theorem dJ5_putChar_34 : decode cJ5_putChar 34 = .ok (.iinc 1 1, 3) := dk_132 1 1 (dk_at dksJ5_putChar_1 10 rfl rfl)
theorem dJ5_putChar_37 : decode cJ5_putChar 37 = .ok (.iload_n 2, 1) := dk_28 (dk_at dksJ5_putChar_1 13 rfl rfl)
theorem dJ5_putChar_38 : decode cJ5_putChar 38 = .ok (.getstatic 59, 3) := dk_178 0 59 (dk_at dksJ5_putChar_1 14 rfl rfl)
theorem dJ5_putChar_41 : decode cJ5_putChar 41 = .ok (.ishr, 1) := dk_122 (dk_at dksJ5_putChar_1 17 rfl rfl)
theorem dJ5_putChar_42 : decode cJ5_putChar 42 = .ok (.i2b, 1) := dk_145 (dk_at dksJ5_putChar_1 18 rfl rfl)
theorem dJ5_putChar_43 : decode cJ5_putChar 43 = .ok (.bastore, 1) := dk_84 (dk_at dksJ5_putChar_1 19 rfl rfl)
theorem dJ5_putChar_44 : decode cJ5_putChar 44 = .ok (.aload_n 0, 1) := dk_42 (dk_at dksJ5_putChar_1 20 rfl rfl)
theorem dJ5_putChar_45 : decode cJ5_putChar 45 = .ok (.iload_n 1, 1) := dk_27 (dk_at dksJ5_putChar_1 21 rfl rfl)
theorem dJ5_putChar_46 : decode cJ5_putChar 46 = .ok (.iload_n 2, 1) := dk_28 (dk_at dksJ5_putChar_1 22 rfl rfl)
theorem dJ5_putChar_47 : decode cJ5_putChar 47 = .ok (.getstatic 63, 3) := dk_178 0 63 (dk_at dksJ5_putChar_2 0 rfl rfl)
theorem dJ5_putChar_50 : decode cJ5_putChar 50 = .ok (.ishr, 1) := dk_122 (dk_at dksJ5_putChar_2 3 rfl rfl)
theorem dJ5_putChar_51 : decode cJ5_putChar 51 = .ok (.i2b, 1) := dk_145 (dk_at dksJ5_putChar_2 4 rfl rfl)
theorem dJ5_putChar_52 : decode cJ5_putChar 52 = .ok (.bastore, 1) := dk_84 (dk_at dksJ5_putChar_2 5 rfl rfl)
theorem dJ5_putChar_53 : decode cJ5_putChar 53 = .ok (.return_, 1) := dk_177 (dk_at dksJ5_putChar_2 6 rfl rfl)
abbrev cJ5_length : ByteArray := prog_29_method_6_code
def yJ5_length : MethodName := ⟨RJ5, "length", "([B)I"⟩
def dkwJ5_length_0 : List UInt8 := [42, 190, 4, 122, 172]
abbrev dktJ5_length_0 : List UInt8 := dkwJ5_length_0 ++ []
theorem dksJ5_length_0 : cJ5_length.data.toList.drop 0 = dktJ5_length_0 := by decide +kernel
theorem dJ5_length_0 : decode cJ5_length 0 = .ok (.aload_n 0, 1) := dk_42 (dk_at dksJ5_length_0 0 rfl rfl)
theorem dJ5_length_1 : decode cJ5_length 1 = .ok (.arraylength, 1) := dk_190 (dk_at dksJ5_length_0 1 rfl rfl)
theorem dJ5_length_2 : decode cJ5_length 2 = .ok (.iconst 1, 1) := dk_4 (dk_at dksJ5_length_0 2 rfl rfl)
theorem dJ5_length_3 : decode cJ5_length 3 = .ok (.ishr, 1) := dk_122 (dk_at dksJ5_length_0 3 rfl rfl)
theorem dJ5_length_4 : decode cJ5_length 4 = .ok (.ireturn, 1) := dk_172 (dk_at dksJ5_length_0 4 rfl rfl)
abbrev cJ5_getChar : ByteArray := prog_29_method_5_code
def yJ5_getChar : MethodName := ⟨RJ5, "getChar", "([BI)C"⟩
def dkwJ5_getChar_2 : List UInt8 := [51, 17, 0, 255, 126, 178, 0, 63, 120, 128, 146, 172]
abbrev dktJ5_getChar_2 : List UInt8 := dkwJ5_getChar_2 ++ []
def dkwJ5_getChar_1 : List UInt8 := [183, 0, 56, 191, 27, 4, 120, 60, 42, 27, 132, 1, 1, 51, 17, 0, 255, 126, 178, 0, 59, 120, 42, 27]
abbrev dktJ5_getChar_1 : List UInt8 := dkwJ5_getChar_1 ++ dktJ5_getChar_2
def dkwJ5_getChar_0 : List UInt8 := [178, 0, 44, 154, 0, 25, 27, 155, 0, 11, 27, 42, 184, 0, 48, 161, 0, 13, 187, 0, 52, 89, 18, 54]
abbrev dktJ5_getChar_0 : List UInt8 := dkwJ5_getChar_0 ++ dktJ5_getChar_1
theorem dksJ5_getChar_0 : cJ5_getChar.data.toList.drop 0 = dktJ5_getChar_0 := by decide +kernel
theorem dksJ5_getChar_1 : cJ5_getChar.data.toList.drop 24 = dktJ5_getChar_1 := dk_seg dksJ5_getChar_0 24 rfl rfl
theorem dksJ5_getChar_2 : cJ5_getChar.data.toList.drop 48 = dktJ5_getChar_2 := dk_seg dksJ5_getChar_1 24 rfl rfl
theorem dJ5_getChar_0 : decode cJ5_getChar 0 = .ok (.getstatic 44, 3) := dk_178 0 44 (dk_at dksJ5_getChar_0 0 rfl rfl)
theorem dJ5_getChar_3 : decode cJ5_getChar 3 = .ok (.ifCond .ne 25, 3) := dk_154 0 25 (dk_at dksJ5_getChar_0 3 rfl rfl)
theorem dJ5_getChar_6 : decode cJ5_getChar 6 = .ok (.iload_n 1, 1) := dk_27 (dk_at dksJ5_getChar_0 6 rfl rfl)
theorem dJ5_getChar_7 : decode cJ5_getChar 7 = .ok (.ifCond .lt 11, 3) := dk_155 0 11 (dk_at dksJ5_getChar_0 7 rfl rfl)
theorem dJ5_getChar_10 : decode cJ5_getChar 10 = .ok (.iload_n 1, 1) := dk_27 (dk_at dksJ5_getChar_0 10 rfl rfl)
theorem dJ5_getChar_11 : decode cJ5_getChar 11 = .ok (.aload_n 0, 1) := dk_42 (dk_at dksJ5_getChar_0 11 rfl rfl)
theorem dJ5_getChar_12 : decode cJ5_getChar 12 = .ok (.invokestatic 48, 3) := dk_184 0 48 (dk_at dksJ5_getChar_0 12 rfl rfl)
theorem dJ5_getChar_15 : decode cJ5_getChar 15 = .ok (.if_icmp .lt 13, 3) := dk_161 0 13 (dk_at dksJ5_getChar_0 15 rfl rfl)
theorem dJ5_getChar_18 : decode cJ5_getChar 18 = .ok (.new 52, 3) := dk_187 0 52 (dk_at dksJ5_getChar_0 18 rfl rfl)
theorem dJ5_getChar_21 : decode cJ5_getChar 21 = .ok (.dup, 1) := dk_89 (dk_at dksJ5_getChar_0 21 rfl rfl)
theorem dJ5_getChar_22 : decode cJ5_getChar 22 = .ok (.ldc 54, 2) := dk_18 54 (dk_at dksJ5_getChar_0 22 rfl rfl)
theorem dJ5_getChar_24 : decode cJ5_getChar 24 = .ok (.invokespecial 56, 3) := dk_183 0 56 (dk_at dksJ5_getChar_1 0 rfl rfl)
theorem dJ5_getChar_27 : decode cJ5_getChar 27 = .ok (.athrow, 1) := dk_191 (dk_at dksJ5_getChar_1 3 rfl rfl)
theorem dJ5_getChar_28 : decode cJ5_getChar 28 = .ok (.iload_n 1, 1) := dk_27 (dk_at dksJ5_getChar_1 4 rfl rfl)
theorem dJ5_getChar_29 : decode cJ5_getChar 29 = .ok (.iconst 1, 1) := dk_4 (dk_at dksJ5_getChar_1 5 rfl rfl)
theorem dJ5_getChar_30 : decode cJ5_getChar 30 = .ok (.ishl, 1) := dk_120 (dk_at dksJ5_getChar_1 6 rfl rfl)
theorem dJ5_getChar_31 : decode cJ5_getChar 31 = .ok (.istore_n 1, 1) := dk_60 (dk_at dksJ5_getChar_1 7 rfl rfl)
theorem dJ5_getChar_32 : decode cJ5_getChar 32 = .ok (.aload_n 0, 1) := dk_42 (dk_at dksJ5_getChar_1 8 rfl rfl)
theorem dJ5_getChar_33 : decode cJ5_getChar 33 = .ok (.iload_n 1, 1) := dk_27 (dk_at dksJ5_getChar_1 9 rfl rfl)
theorem dJ5_getChar_34 : decode cJ5_getChar 34 = .ok (.iinc 1 1, 3) := dk_132 1 1 (dk_at dksJ5_getChar_1 10 rfl rfl)
theorem dJ5_getChar_37 : decode cJ5_getChar 37 = .ok (.baload, 1) := dk_51 (dk_at dksJ5_getChar_1 13 rfl rfl)
theorem dJ5_getChar_38 : decode cJ5_getChar 38 = .ok (.sipush 255, 3) := dk_17 0 255 (dk_at dksJ5_getChar_1 14 rfl rfl)
theorem dJ5_getChar_41 : decode cJ5_getChar 41 = .ok (.iand, 1) := dk_126 (dk_at dksJ5_getChar_1 17 rfl rfl)
theorem dJ5_getChar_42 : decode cJ5_getChar 42 = .ok (.getstatic 59, 3) := dk_178 0 59 (dk_at dksJ5_getChar_1 18 rfl rfl)
theorem dJ5_getChar_45 : decode cJ5_getChar 45 = .ok (.ishl, 1) := dk_120 (dk_at dksJ5_getChar_1 21 rfl rfl)
theorem dJ5_getChar_46 : decode cJ5_getChar 46 = .ok (.aload_n 0, 1) := dk_42 (dk_at dksJ5_getChar_1 22 rfl rfl)
theorem dJ5_getChar_47 : decode cJ5_getChar 47 = .ok (.iload_n 1, 1) := dk_27 (dk_at dksJ5_getChar_1 23 rfl rfl)
theorem dJ5_getChar_48 : decode cJ5_getChar 48 = .ok (.baload, 1) := dk_51 (dk_at dksJ5_getChar_2 0 rfl rfl)
theorem dJ5_getChar_49 : decode cJ5_getChar 49 = .ok (.sipush 255, 3) := dk_17 0 255 (dk_at dksJ5_getChar_2 1 rfl rfl)
theorem dJ5_getChar_52 : decode cJ5_getChar 52 = .ok (.iand, 1) := dk_126 (dk_at dksJ5_getChar_2 4 rfl rfl)
theorem dJ5_getChar_53 : decode cJ5_getChar 53 = .ok (.getstatic 63, 3) := dk_178 0 63 (dk_at dksJ5_getChar_2 5 rfl rfl)
theorem dJ5_getChar_56 : decode cJ5_getChar 56 = .ok (.ishl, 1) := dk_120 (dk_at dksJ5_getChar_2 8 rfl rfl)
theorem dJ5_getChar_57 : decode cJ5_getChar 57 = .ok (.ior, 1) := dk_128 (dk_at dksJ5_getChar_2 9 rfl rfl)
theorem dJ5_getChar_58 : decode cJ5_getChar 58 = .ok (.i2c, 1) := dk_146 (dk_at dksJ5_getChar_2 10 rfl rfl)
theorem dJ5_getChar_59 : decode cJ5_getChar 59 = .ok (.ireturn, 1) := dk_172 (dk_at dksJ5_getChar_2 11 rfl rfl)
abbrev cJ5_compress_3 : ByteArray := prog_29_method_22_code
def yJ5_compress_3 : MethodName := ⟨RJ5, "compress", "([BI[BII)I"⟩
def dkwJ5_compress_3_2 : List UInt8 := [132, 5, 1, 167, 255, 216, 21, 4, 172]
abbrev dktJ5_compress_3_2 : List UInt8 := dkwJ5_compress_3_2 ++ []
def dkwJ5_compress_3_1 : List UInt8 := [21, 6, 17, 0, 255, 164, 0, 6, 21, 5, 172, 44, 29, 21, 6, 145, 84, 132, 1, 1, 132, 3, 1]
abbrev dktJ5_compress_3_1 : List UInt8 := dkwJ5_compress_3_1 ++ dktJ5_compress_3_2
def dkwJ5_compress_3_0 : List UInt8 := [27, 21, 4, 42, 184, 0, 173, 3, 54, 5, 21, 5, 21, 4, 162, 0, 39, 42, 27, 184, 0, 71, 54, 6]
abbrev dktJ5_compress_3_0 : List UInt8 := dkwJ5_compress_3_0 ++ dktJ5_compress_3_1
theorem dksJ5_compress_3_0 : cJ5_compress_3.data.toList.drop 0 = dktJ5_compress_3_0 := by decide +kernel
theorem dksJ5_compress_3_1 : cJ5_compress_3.data.toList.drop 24 = dktJ5_compress_3_1 := dk_seg dksJ5_compress_3_0 24 rfl rfl
theorem dksJ5_compress_3_2 : cJ5_compress_3.data.toList.drop 47 = dktJ5_compress_3_2 := dk_seg dksJ5_compress_3_1 23 rfl rfl
theorem dJ5_compress_3_0 : decode cJ5_compress_3 0 = .ok (.iload_n 1, 1) := dk_27 (dk_at dksJ5_compress_3_0 0 rfl rfl)
theorem dJ5_compress_3_1 : decode cJ5_compress_3 1 = .ok (.iload 4, 2) := dk_21 4 (dk_at dksJ5_compress_3_0 1 rfl rfl)
theorem dJ5_compress_3_3 : decode cJ5_compress_3 3 = .ok (.aload_n 0, 1) := dk_42 (dk_at dksJ5_compress_3_0 3 rfl rfl)
theorem dJ5_compress_3_4 : decode cJ5_compress_3 4 = .ok (.invokestatic 173, 3) := dk_184 0 173 (dk_at dksJ5_compress_3_0 4 rfl rfl)
theorem dJ5_compress_3_7 : decode cJ5_compress_3 7 = .ok (.iconst 0, 1) := dk_3 (dk_at dksJ5_compress_3_0 7 rfl rfl)
theorem dJ5_compress_3_8 : decode cJ5_compress_3 8 = .ok (.istore 5, 2) := dk_54 5 (dk_at dksJ5_compress_3_0 8 rfl rfl)
theorem dJ5_compress_3_10 : decode cJ5_compress_3 10 = .ok (.iload 5, 2) := dk_21 5 (dk_at dksJ5_compress_3_0 10 rfl rfl)
theorem dJ5_compress_3_12 : decode cJ5_compress_3 12 = .ok (.iload 4, 2) := dk_21 4 (dk_at dksJ5_compress_3_0 12 rfl rfl)
theorem dJ5_compress_3_14 : decode cJ5_compress_3 14 = .ok (.if_icmp .ge 39, 3) := dk_162 0 39 (dk_at dksJ5_compress_3_0 14 rfl rfl)
theorem dJ5_compress_3_17 : decode cJ5_compress_3 17 = .ok (.aload_n 0, 1) := dk_42 (dk_at dksJ5_compress_3_0 17 rfl rfl)
theorem dJ5_compress_3_18 : decode cJ5_compress_3 18 = .ok (.iload_n 1, 1) := dk_27 (dk_at dksJ5_compress_3_0 18 rfl rfl)
theorem dJ5_compress_3_19 : decode cJ5_compress_3 19 = .ok (.invokestatic 71, 3) := dk_184 0 71 (dk_at dksJ5_compress_3_0 19 rfl rfl)
theorem dJ5_compress_3_22 : decode cJ5_compress_3 22 = .ok (.istore 6, 2) := dk_54 6 (dk_at dksJ5_compress_3_0 22 rfl rfl)
theorem dJ5_compress_3_24 : decode cJ5_compress_3 24 = .ok (.iload 6, 2) := dk_21 6 (dk_at dksJ5_compress_3_1 0 rfl rfl)
theorem dJ5_compress_3_26 : decode cJ5_compress_3 26 = .ok (.sipush 255, 3) := dk_17 0 255 (dk_at dksJ5_compress_3_1 2 rfl rfl)
theorem dJ5_compress_3_29 : decode cJ5_compress_3 29 = .ok (.if_icmp .le 6, 3) := dk_164 0 6 (dk_at dksJ5_compress_3_1 5 rfl rfl)
theorem dJ5_compress_3_32 : decode cJ5_compress_3 32 = .ok (.iload 5, 2) := dk_21 5 (dk_at dksJ5_compress_3_1 8 rfl rfl)
theorem dJ5_compress_3_34 : decode cJ5_compress_3 34 = .ok (.ireturn, 1) := dk_172 (dk_at dksJ5_compress_3_1 10 rfl rfl)
theorem dJ5_compress_3_35 : decode cJ5_compress_3 35 = .ok (.aload_n 2, 1) := dk_44 (dk_at dksJ5_compress_3_1 11 rfl rfl)
theorem dJ5_compress_3_36 : decode cJ5_compress_3 36 = .ok (.iload_n 3, 1) := dk_29 (dk_at dksJ5_compress_3_1 12 rfl rfl)
theorem dJ5_compress_3_37 : decode cJ5_compress_3 37 = .ok (.iload 6, 2) := dk_21 6 (dk_at dksJ5_compress_3_1 13 rfl rfl)
theorem dJ5_compress_3_39 : decode cJ5_compress_3 39 = .ok (.i2b, 1) := dk_145 (dk_at dksJ5_compress_3_1 15 rfl rfl)
theorem dJ5_compress_3_40 : decode cJ5_compress_3 40 = .ok (.bastore, 1) := dk_84 (dk_at dksJ5_compress_3_1 16 rfl rfl)
theorem dJ5_compress_3_41 : decode cJ5_compress_3 41 = .ok (.iinc 1 1, 3) := dk_132 1 1 (dk_at dksJ5_compress_3_1 17 rfl rfl)
theorem dJ5_compress_3_44 : decode cJ5_compress_3 44 = .ok (.iinc 3 1, 3) := dk_132 3 1 (dk_at dksJ5_compress_3_1 20 rfl rfl)
theorem dJ5_compress_3_47 : decode cJ5_compress_3 47 = .ok (.iinc 5 1, 3) := dk_132 5 1 (dk_at dksJ5_compress_3_2 0 rfl rfl)
theorem dJ5_compress_3_50 : decode cJ5_compress_3 50 = .ok (.goto (-40), 3) := dk_167 255 216 (dk_at dksJ5_compress_3_2 3 rfl rfl)
theorem dJ5_compress_3_53 : decode cJ5_compress_3 53 = .ok (.iload 4, 2) := dk_21 4 (dk_at dksJ5_compress_3_2 6 rfl rfl)
theorem dJ5_compress_3_55 : decode cJ5_compress_3 55 = .ok (.ireturn, 1) := dk_172 (dk_at dksJ5_compress_3_2 8 rfl rfl)
abbrev cJ5_checkBoundsOffCount : ByteArray := prog_29_method_94_code
def yJ5_checkBoundsOffCount : MethodName := ⟨RJ5, "checkBoundsOffCount", "(II[B)V"⟩
def dkwJ5_checkBoundsOffCount_0 : List UInt8 := [26, 27, 44, 184, 0, 48, 184, 1, 163, 87, 177]
abbrev dktJ5_checkBoundsOffCount_0 : List UInt8 := dkwJ5_checkBoundsOffCount_0 ++ []
theorem dksJ5_checkBoundsOffCount_0 : cJ5_checkBoundsOffCount.data.toList.drop 0 = dktJ5_checkBoundsOffCount_0 := by decide +kernel
theorem dJ5_checkBoundsOffCount_0 : decode cJ5_checkBoundsOffCount 0 = .ok (.iload_n 0, 1) := dk_26 (dk_at dksJ5_checkBoundsOffCount_0 0 rfl rfl)
theorem dJ5_checkBoundsOffCount_1 : decode cJ5_checkBoundsOffCount 1 = .ok (.iload_n 1, 1) := dk_27 (dk_at dksJ5_checkBoundsOffCount_0 1 rfl rfl)
theorem dJ5_checkBoundsOffCount_2 : decode cJ5_checkBoundsOffCount 2 = .ok (.aload_n 2, 1) := dk_44 (dk_at dksJ5_checkBoundsOffCount_0 2 rfl rfl)
theorem dJ5_checkBoundsOffCount_3 : decode cJ5_checkBoundsOffCount 3 = .ok (.invokestatic 48, 3) := dk_184 0 48 (dk_at dksJ5_checkBoundsOffCount_0 3 rfl rfl)
theorem dJ5_checkBoundsOffCount_6 : decode cJ5_checkBoundsOffCount 6 = .ok (.invokestatic 419, 3) := dk_184 1 163 (dk_at dksJ5_checkBoundsOffCount_0 6 rfl rfl)
theorem dJ5_checkBoundsOffCount_9 : decode cJ5_checkBoundsOffCount 9 = .ok (.pop, 1) := dk_87 (dk_at dksJ5_checkBoundsOffCount_0 9 rfl rfl)
theorem dJ5_checkBoundsOffCount_10 : decode cJ5_checkBoundsOffCount 10 = .ok (.return_, 1) := dk_177 (dk_at dksJ5_checkBoundsOffCount_0 10 rfl rfl)
abbrev cJ5_coderFromArrayLen : ByteArray := prog_29_method_15_code
def yJ5_coderFromArrayLen : MethodName := ⟨RJ5, "coderFromArrayLen", "([BI)B"⟩
def dkwJ5_coderFromArrayLen_0 : List UInt8 := [27, 42, 190, 100, 16, 31, 124, 145, 172]
abbrev dktJ5_coderFromArrayLen_0 : List UInt8 := dkwJ5_coderFromArrayLen_0 ++ []
theorem dksJ5_coderFromArrayLen_0 : cJ5_coderFromArrayLen.data.toList.drop 0 = dktJ5_coderFromArrayLen_0 := by decide +kernel
theorem dJ5_coderFromArrayLen_0 : decode cJ5_coderFromArrayLen 0 = .ok (.iload_n 1, 1) := dk_27 (dk_at dksJ5_coderFromArrayLen_0 0 rfl rfl)
theorem dJ5_coderFromArrayLen_1 : decode cJ5_coderFromArrayLen 1 = .ok (.aload_n 0, 1) := dk_42 (dk_at dksJ5_coderFromArrayLen_0 1 rfl rfl)
theorem dJ5_coderFromArrayLen_2 : decode cJ5_coderFromArrayLen 2 = .ok (.arraylength, 1) := dk_190 (dk_at dksJ5_coderFromArrayLen_0 2 rfl rfl)
theorem dJ5_coderFromArrayLen_3 : decode cJ5_coderFromArrayLen 3 = .ok (.isub, 1) := dk_100 (dk_at dksJ5_coderFromArrayLen_0 3 rfl rfl)
theorem dJ5_coderFromArrayLen_4 : decode cJ5_coderFromArrayLen 4 = .ok (.bipush 31, 2) := dk_16 31 (dk_at dksJ5_coderFromArrayLen_0 4 rfl rfl)
theorem dJ5_coderFromArrayLen_6 : decode cJ5_coderFromArrayLen 6 = .ok (.iushr, 1) := dk_124 (dk_at dksJ5_coderFromArrayLen_0 6 rfl rfl)
theorem dJ5_coderFromArrayLen_7 : decode cJ5_coderFromArrayLen 7 = .ok (.i2b, 1) := dk_145 (dk_at dksJ5_coderFromArrayLen_0 7 rfl rfl)
theorem dJ5_coderFromArrayLen_8 : decode cJ5_coderFromArrayLen 8 = .ok (.ireturn, 1) := dk_172 (dk_at dksJ5_coderFromArrayLen_0 8 rfl rfl)
abbrev cJ5_hashCode : ByteArray := prog_29_method_39_code
def yJ5_hashCode : MethodName := ⟨RJ5, "hashCode", "([B)I"⟩
def dkwJ5_hashCode_2 : List UInt8 := [3, 167, 0, 22, 42, 3, 184, 0, 71, 167, 0, 14, 42, 3, 42, 190, 4, 122, 3, 8, 184, 0, 220, 172]
abbrev dktJ5_hashCode_2 : List UInt8 := dkwJ5_hashCode_2 ++ []
def dkwJ5_hashCode_1 : List UInt8 := [171, 0, 0, 0, 0, 38, 0, 0, 0, 2, 0, 0, 0, 0, 0, 0, 0, 26, 0, 0, 0, 2, 0, 0, 0, 30]
abbrev dktJ5_hashCode_1 : List UInt8 := dkwJ5_hashCode_1 ++ dktJ5_hashCode_2
def dkwJ5_hashCode_0 : List UInt8 := [42, 190]
abbrev dktJ5_hashCode_0 : List UInt8 := dkwJ5_hashCode_0 ++ dktJ5_hashCode_1
theorem dksJ5_hashCode_0 : cJ5_hashCode.data.toList.drop 0 = dktJ5_hashCode_0 := by decide +kernel
theorem dksJ5_hashCode_1 : cJ5_hashCode.data.toList.drop 2 = dktJ5_hashCode_1 := dk_seg dksJ5_hashCode_0 2 rfl rfl
theorem dksJ5_hashCode_2 : cJ5_hashCode.data.toList.drop 28 = dktJ5_hashCode_2 := dk_seg dksJ5_hashCode_1 26 rfl rfl
theorem dJ5_hashCode_0 : decode cJ5_hashCode 0 = .ok (.aload_n 0, 1) := dk_42 (dk_at dksJ5_hashCode_0 0 rfl rfl)
theorem dJ5_hashCode_1 : decode cJ5_hashCode 1 = .ok (.arraylength, 1) := dk_190 (dk_at dksJ5_hashCode_0 1 rfl rfl)
theorem dJ5_hashCode_2 : decode cJ5_hashCode 2 = .ok (.lookupswitch 38 #[(0, 26), (2, 30)], 26) := by decide +kernel
theorem dJ5_hashCode_28 : decode cJ5_hashCode 28 = .ok (.iconst 0, 1) := dk_3 (dk_at dksJ5_hashCode_2 0 rfl rfl)
theorem dJ5_hashCode_29 : decode cJ5_hashCode 29 = .ok (.goto 22, 3) := dk_167 0 22 (dk_at dksJ5_hashCode_2 1 rfl rfl)
theorem dJ5_hashCode_32 : decode cJ5_hashCode 32 = .ok (.aload_n 0, 1) := dk_42 (dk_at dksJ5_hashCode_2 4 rfl rfl)
theorem dJ5_hashCode_33 : decode cJ5_hashCode 33 = .ok (.iconst 0, 1) := dk_3 (dk_at dksJ5_hashCode_2 5 rfl rfl)
theorem dJ5_hashCode_34 : decode cJ5_hashCode 34 = .ok (.invokestatic 71, 3) := dk_184 0 71 (dk_at dksJ5_hashCode_2 6 rfl rfl)
theorem dJ5_hashCode_37 : decode cJ5_hashCode 37 = .ok (.goto 14, 3) := dk_167 0 14 (dk_at dksJ5_hashCode_2 9 rfl rfl)
theorem dJ5_hashCode_40 : decode cJ5_hashCode 40 = .ok (.aload_n 0, 1) := dk_42 (dk_at dksJ5_hashCode_2 12 rfl rfl)
theorem dJ5_hashCode_41 : decode cJ5_hashCode 41 = .ok (.iconst 0, 1) := dk_3 (dk_at dksJ5_hashCode_2 13 rfl rfl)
theorem dJ5_hashCode_42 : decode cJ5_hashCode 42 = .ok (.aload_n 0, 1) := dk_42 (dk_at dksJ5_hashCode_2 14 rfl rfl)
theorem dJ5_hashCode_43 : decode cJ5_hashCode 43 = .ok (.arraylength, 1) := dk_190 (dk_at dksJ5_hashCode_2 15 rfl rfl)
theorem dJ5_hashCode_44 : decode cJ5_hashCode 44 = .ok (.iconst 1, 1) := dk_4 (dk_at dksJ5_hashCode_2 16 rfl rfl)
theorem dJ5_hashCode_45 : decode cJ5_hashCode 45 = .ok (.ishr, 1) := dk_122 (dk_at dksJ5_hashCode_2 17 rfl rfl)
theorem dJ5_hashCode_46 : decode cJ5_hashCode 46 = .ok (.iconst 0, 1) := dk_3 (dk_at dksJ5_hashCode_2 18 rfl rfl)
theorem dJ5_hashCode_47 : decode cJ5_hashCode 47 = .ok (.iconst 5, 1) := dk_8 (dk_at dksJ5_hashCode_2 19 rfl rfl)
theorem dJ5_hashCode_48 : decode cJ5_hashCode 48 = .ok (.invokestatic 220, 3) := dk_184 0 220 (dk_at dksJ5_hashCode_2 20 rfl rfl)
theorem dJ5_hashCode_51 : decode cJ5_hashCode 51 = .ok (.ireturn, 1) := dk_172 (dk_at dksJ5_hashCode_2 23 rfl rfl)
abbrev cJ5_charAt : ByteArray := prog_29_method_83_code
def yJ5_charAt : MethodName := ⟨RJ5, "charAt", "([BI)C"⟩
def dkwJ5_charAt_0 : List UInt8 := [27, 42, 184, 0, 67, 42, 27, 184, 0, 71, 172]
abbrev dktJ5_charAt_0 : List UInt8 := dkwJ5_charAt_0 ++ []
theorem dksJ5_charAt_0 : cJ5_charAt.data.toList.drop 0 = dktJ5_charAt_0 := by decide +kernel
theorem dJ5_charAt_0 : decode cJ5_charAt 0 = .ok (.iload_n 1, 1) := dk_27 (dk_at dksJ5_charAt_0 0 rfl rfl)
theorem dJ5_charAt_1 : decode cJ5_charAt 1 = .ok (.aload_n 0, 1) := dk_42 (dk_at dksJ5_charAt_0 1 rfl rfl)
theorem dJ5_charAt_2 : decode cJ5_charAt 2 = .ok (.invokestatic 67, 3) := dk_184 0 67 (dk_at dksJ5_charAt_0 2 rfl rfl)
theorem dJ5_charAt_5 : decode cJ5_charAt 5 = .ok (.aload_n 0, 1) := dk_42 (dk_at dksJ5_charAt_0 5 rfl rfl)
theorem dJ5_charAt_6 : decode cJ5_charAt 6 = .ok (.iload_n 1, 1) := dk_27 (dk_at dksJ5_charAt_0 6 rfl rfl)
theorem dJ5_charAt_7 : decode cJ5_charAt 7 = .ok (.invokestatic 71, 3) := dk_184 0 71 (dk_at dksJ5_charAt_0 7 rfl rfl)
theorem dJ5_charAt_10 : decode cJ5_charAt 10 = .ok (.ireturn, 1) := dk_172 (dk_at dksJ5_charAt_0 10 rfl rfl)
abbrev cJ5_checkIndex : ByteArray := prog_29_method_91_code
def yJ5_checkIndex : MethodName := ⟨RJ5, "checkIndex", "(I[B)V"⟩
def dkwJ5_checkIndex_0 : List UInt8 := [26, 43, 184, 0, 48, 184, 1, 158, 177]
abbrev dktJ5_checkIndex_0 : List UInt8 := dkwJ5_checkIndex_0 ++ []
theorem dksJ5_checkIndex_0 : cJ5_checkIndex.data.toList.drop 0 = dktJ5_checkIndex_0 := by decide +kernel
theorem dJ5_checkIndex_0 : decode cJ5_checkIndex 0 = .ok (.iload_n 0, 1) := dk_26 (dk_at dksJ5_checkIndex_0 0 rfl rfl)
theorem dJ5_checkIndex_1 : decode cJ5_checkIndex 1 = .ok (.aload_n 1, 1) := dk_43 (dk_at dksJ5_checkIndex_0 1 rfl rfl)
theorem dJ5_checkIndex_2 : decode cJ5_checkIndex 2 = .ok (.invokestatic 48, 3) := dk_184 0 48 (dk_at dksJ5_checkIndex_0 2 rfl rfl)
theorem dJ5_checkIndex_5 : decode cJ5_checkIndex 5 = .ok (.invokestatic 414, 3) := dk_184 1 158 (dk_at dksJ5_checkIndex_0 5 rfl rfl)
theorem dJ5_checkIndex_8 : decode cJ5_checkIndex 8 = .ok (.return_, 1) := dk_177 (dk_at dksJ5_checkIndex_0 8 rfl rfl)
theorem q128 : (Jvm.Cond.initialized "java/lang/StringUTF16") ∈ lw_all := lw_g (lw_at lw_m1 18 rfl) rfl
theorem q605 : (Jvm.Cond.static ({ cls := "java/lang/StringUTF16", name := "compress", desc := "([CII)[B" } : Jvm.MethodName)) ∈ lw_all := lw_g (lw_at lw_m3 15 rfl) rfl
theorem q606 : (Jvm.Cond.code ({ cls := "java/lang/StringUTF16", name := "compress", desc := "([CII)[B" } : Jvm.MethodName) prog_29_method_16_code (6 : Nat) (Option.some (Jvm.ClassFile.FieldType.array Jvm.ClassFile.FieldType.byte))) ∈ lw_all := lw_g (lw_at lw_m3 16 rfl) rfl
theorem q607 : (Jvm.Cond.methodLink "java/lang/StringUTF16" (115 : Nat) ({ cls := "java/lang/StringUTF16", name := "compress", desc := "([CI[BII)I" } : Jvm.MethodName)) ∈ lw_all := lw_g (lw_at lw_m3 17 rfl) rfl
theorem q608 : (Jvm.Cond.static ({ cls := "java/lang/StringUTF16", name := "compress", desc := "([CI[BII)I" } : Jvm.MethodName)) ∈ lw_all := lw_g (lw_at lw_m3 18 rfl) rfl
theorem q609 : (Jvm.Cond.code ({ cls := "java/lang/StringUTF16", name := "compress", desc := "([CI[BII)I" } : Jvm.MethodName) prog_29_method_21_code (7 : Nat) (Option.some Jvm.ClassFile.FieldType.int)) ∈ lw_all := lw_g (lw_at lw_m3 19 rfl) rfl
theorem q610 : (Jvm.Cond.methodLink "java/lang/StringUTF16" (119 : Nat) ({ cls := "java/lang/StringUTF16", name := "toBytes", desc := "([CII)[B" } : Jvm.MethodName)) ∈ lw_all := lw_g (lw_at lw_m3 20 rfl) rfl
theorem q611 : (Jvm.Cond.static ({ cls := "java/lang/StringUTF16", name := "toBytes", desc := "([CII)[B" } : Jvm.MethodName)) ∈ lw_all := lw_g (lw_at lw_m3 21 rfl) rfl
theorem q612 : (Jvm.Cond.code ({ cls := "java/lang/StringUTF16", name := "toBytes", desc := "([CII)[B" } : Jvm.MethodName) prog_29_method_14_code (5 : Nat) (Option.some (Jvm.ClassFile.FieldType.array Jvm.ClassFile.FieldType.byte))) ∈ lw_all := lw_g (lw_at lw_m3 22 rfl) rfl
theorem q613 : (Jvm.Cond.methodLink "java/lang/StringUTF16" (107 : Nat) ({ cls := "java/lang/StringUTF16", name := "newBytesFor", desc := "(I)[B" } : Jvm.MethodName)) ∈ lw_all := lw_g (lw_at lw_m3 23 rfl) rfl
theorem q614 : (Jvm.Cond.static ({ cls := "java/lang/StringUTF16", name := "newBytesFor", desc := "(I)[B" } : Jvm.MethodName)) ∈ lw_all := lw_g (lw_at lw_m3 24 rfl) rfl
theorem q615 : (Jvm.Cond.code ({ cls := "java/lang/StringUTF16", name := "newBytesFor", desc := "(I)[B" } : Jvm.MethodName) prog_29_method_2_code (1 : Nat) (Option.some (Jvm.ClassFile.FieldType.array Jvm.ClassFile.FieldType.byte))) ∈ lw_all := lw_g (lw_at lw_m3 25 rfl) rfl
theorem q616 : (Jvm.Cond.methodLink "java/lang/StringUTF16" (11 : Nat) ({ cls := "java/lang/StringUTF16", name := "newBytesLength", desc := "(I)I" } : Jvm.MethodName)) ∈ lw_all := lw_g (lw_at lw_m3 26 rfl) rfl
theorem q617 : (Jvm.Cond.static ({ cls := "java/lang/StringUTF16", name := "newBytesLength", desc := "(I)I" } : Jvm.MethodName)) ∈ lw_all := lw_g (lw_at lw_m3 27 rfl) rfl
theorem q618 : (Jvm.Cond.code ({ cls := "java/lang/StringUTF16", name := "newBytesLength", desc := "(I)I" } : Jvm.MethodName) prog_29_method_3_code (1 : Nat) (Option.some Jvm.ClassFile.FieldType.int)) ∈ lw_all := lw_g (lw_at lw_m3 28 rfl) rfl
theorem q619 : (Jvm.Cond.constant "java/lang/StringUTF16" (20 : Nat) (1073741823 : Int32)) ∈ lw_all := lw_g (lw_at lw_m3 29 rfl) rfl
theorem q620 : (Jvm.Cond.methodLink "java/lang/StringUTF16" (111 : Nat) ({ cls := "java/lang/StringUTF16", name := "putChar", desc := "([BII)V" } : Jvm.MethodName)) ∈ lw_all := lw_g (lw_at lw_m3 30 rfl) rfl
theorem q621 : (Jvm.Cond.static ({ cls := "java/lang/StringUTF16", name := "putChar", desc := "([BII)V" } : Jvm.MethodName)) ∈ lw_all := lw_g (lw_at lw_m3 31 rfl) rfl
theorem q622 : (Jvm.Cond.code ({ cls := "java/lang/StringUTF16", name := "putChar", desc := "([BII)V" } : Jvm.MethodName) prog_29_method_4_code (3 : Nat) (Option.none : Option Jvm.ClassFile.FieldType)) ∈ lw_all := lw_g (lw_at lw_m3 32 rfl) rfl
theorem q623 : (Jvm.Cond.fieldLink "java/lang/StringUTF16" (44 : Nat) "java/lang/StringUTF16" "$assertionsDisabled" "Z") ∈ lw_all := lw_g (lw_at lw_m3 33 rfl) rfl
theorem q624 : (Jvm.Cond.laysStatic "java/lang/StringUTF16" "$assertionsDisabled" "Z") ∈ lw_tbl := lw_at lw_m3 34 rfl
theorem q625 : (Jvm.Cond.methodLink "java/lang/StringUTF16" (48 : Nat) ({ cls := "java/lang/StringUTF16", name := "length", desc := "([B)I" } : Jvm.MethodName)) ∈ lw_all := lw_g (lw_at lw_m3 35 rfl) rfl
theorem q626 : (Jvm.Cond.static ({ cls := "java/lang/StringUTF16", name := "length", desc := "([B)I" } : Jvm.MethodName)) ∈ lw_all := lw_g (lw_at lw_m3 36 rfl) rfl
theorem q627 : (Jvm.Cond.code ({ cls := "java/lang/StringUTF16", name := "length", desc := "([B)I" } : Jvm.MethodName) prog_29_method_6_code (1 : Nat) (Option.some Jvm.ClassFile.FieldType.int)) ∈ lw_all := lw_g (lw_at lw_m3 37 rfl) rfl
theorem q628 : (Jvm.Cond.fieldLink "java/lang/StringUTF16" (59 : Nat) "java/lang/StringUTF16" "HI_BYTE_SHIFT" "I") ∈ lw_all := lw_g (lw_at lw_m3 38 rfl) rfl
theorem q629 : (Jvm.Cond.laysStatic "java/lang/StringUTF16" "HI_BYTE_SHIFT" "I") ∈ lw_tbl := lw_at lw_m3 39 rfl
theorem q630 : (Jvm.Cond.fieldLink "java/lang/StringUTF16" (63 : Nat) "java/lang/StringUTF16" "LO_BYTE_SHIFT" "I") ∈ lw_all := lw_g (lw_at lw_m3 40 rfl) rfl
theorem q631 : (Jvm.Cond.laysStatic "java/lang/StringUTF16" "LO_BYTE_SHIFT" "I") ∈ lw_tbl := lw_at lw_m3 41 rfl
theorem q632 : (Jvm.Cond.methodLink "java/lang/StringUTF16" (71 : Nat) ({ cls := "java/lang/StringUTF16", name := "getChar", desc := "([BI)C" } : Jvm.MethodName)) ∈ lw_all := lw_g (lw_at lw_m3 42 rfl) rfl
theorem q633 : (Jvm.Cond.static ({ cls := "java/lang/StringUTF16", name := "getChar", desc := "([BI)C" } : Jvm.MethodName)) ∈ lw_all := lw_g (lw_at lw_m3 43 rfl) rfl
theorem q634 : (Jvm.Cond.code ({ cls := "java/lang/StringUTF16", name := "getChar", desc := "([BI)C" } : Jvm.MethodName) prog_29_method_5_code (2 : Nat) (Option.some Jvm.ClassFile.FieldType.char)) ∈ lw_all := lw_g (lw_at lw_m3 44 rfl) rfl
theorem q635 : (Jvm.Cond.methodLink "java/lang/StringUTF16" (123 : Nat) ({ cls := "java/lang/StringUTF16", name := "compress", desc := "([BI[BII)I" } : Jvm.MethodName)) ∈ lw_all := lw_g (lw_at lw_m3 45 rfl) rfl
theorem q636 : (Jvm.Cond.static ({ cls := "java/lang/StringUTF16", name := "compress", desc := "([BI[BII)I" } : Jvm.MethodName)) ∈ lw_all := lw_g (lw_at lw_m3 46 rfl) rfl
theorem q637 : (Jvm.Cond.code ({ cls := "java/lang/StringUTF16", name := "compress", desc := "([BI[BII)I" } : Jvm.MethodName) prog_29_method_22_code (7 : Nat) (Option.some Jvm.ClassFile.FieldType.int)) ∈ lw_all := lw_g (lw_at lw_m3 47 rfl) rfl
theorem q638 : (Jvm.Cond.methodLink "java/lang/StringUTF16" (173 : Nat) ({ cls := "java/lang/StringUTF16", name := "checkBoundsOffCount", desc := "(II[B)V" } : Jvm.MethodName)) ∈ lw_all := lw_g (lw_at lw_m3 48 rfl) rfl
theorem q639 : (Jvm.Cond.static ({ cls := "java/lang/StringUTF16", name := "checkBoundsOffCount", desc := "(II[B)V" } : Jvm.MethodName)) ∈ lw_all := lw_g (lw_at lw_m3 49 rfl) rfl
theorem q640 : (Jvm.Cond.code ({ cls := "java/lang/StringUTF16", name := "checkBoundsOffCount", desc := "(II[B)V" } : Jvm.MethodName) prog_29_method_94_code (3 : Nat) (Option.none : Option Jvm.ClassFile.FieldType)) ∈ lw_all := lw_g (lw_at lw_m3 50 rfl) rfl
theorem q641 : (Jvm.Cond.methodLink "java/lang/StringUTF16" (419 : Nat) ({ cls := "java/lang/String", name := "checkBoundsOffCount", desc := "(III)I" } : Jvm.MethodName)) ∈ lw_all := lw_g (lw_at lw_m3 51 rfl) rfl
theorem q643 : (Jvm.Cond.static ({ cls := "java/lang/StringUTF16", name := "coderFromArrayLen", desc := "([BI)B" } : Jvm.MethodName)) ∈ lw_all := lw_g (lw_at lw_m3 53 rfl) rfl
theorem q644 : (Jvm.Cond.code ({ cls := "java/lang/StringUTF16", name := "coderFromArrayLen", desc := "([BI)B" } : Jvm.MethodName) prog_29_method_15_code (2 : Nat) (Option.some Jvm.ClassFile.FieldType.byte)) ∈ lw_all := lw_g (lw_at lw_m3 54 rfl) rfl
theorem q725 : (Jvm.Cond.static ({ cls := "java/lang/StringUTF16", name := "hashCode", desc := "([B)I" } : Jvm.MethodName)) ∈ lw_all := lw_g (lw_at lw_m3 135 rfl) rfl
theorem q726 : (Jvm.Cond.code ({ cls := "java/lang/StringUTF16", name := "hashCode", desc := "([B)I" } : Jvm.MethodName) prog_29_method_39_code (1 : Nat) (Option.some Jvm.ClassFile.FieldType.int)) ∈ lw_all := lw_g (lw_at lw_m3 136 rfl) rfl
theorem q727 : (Jvm.Cond.methodLink "java/lang/StringUTF16" (220 : Nat) ({ cls := "jdk/internal/util/ArraysSupport", name := "vectorizedHashCode", desc := "(Ljava/lang/Object;IIII)I" } : Jvm.MethodName)) ∈ lw_all := lw_g (lw_at lw_m3 137 rfl) rfl
theorem q1700 : (Jvm.Cond.static ({ cls := "java/lang/StringUTF16", name := "charAt", desc := "([BI)C" } : Jvm.MethodName)) ∈ lw_all := lw_g (lw_at lw_m7 150 rfl) rfl
theorem q1701 : (Jvm.Cond.code ({ cls := "java/lang/StringUTF16", name := "charAt", desc := "([BI)C" } : Jvm.MethodName) prog_29_method_83_code (2 : Nat) (Option.some Jvm.ClassFile.FieldType.char)) ∈ lw_all := lw_g (lw_at lw_m7 151 rfl) rfl
theorem q1702 : (Jvm.Cond.methodLink "java/lang/StringUTF16" (67 : Nat) ({ cls := "java/lang/StringUTF16", name := "checkIndex", desc := "(I[B)V" } : Jvm.MethodName)) ∈ lw_all := lw_g (lw_at lw_m7 152 rfl) rfl
theorem q1703 : (Jvm.Cond.static ({ cls := "java/lang/StringUTF16", name := "checkIndex", desc := "(I[B)V" } : Jvm.MethodName)) ∈ lw_all := lw_g (lw_at lw_m7 153 rfl) rfl
theorem q1704 : (Jvm.Cond.code ({ cls := "java/lang/StringUTF16", name := "checkIndex", desc := "(I[B)V" } : Jvm.MethodName) prog_29_method_91_code (2 : Nat) (Option.none : Option Jvm.ClassFile.FieldType)) ∈ lw_all := lw_g (lw_at lw_m7 154 rfl) rfl
theorem q1705 : (Jvm.Cond.methodLink "java/lang/StringUTF16" (414 : Nat) ({ cls := "java/lang/String", name := "checkIndex", desc := "(II)V" } : Jvm.MethodName)) ∈ lw_all := lw_g (lw_at lw_m7 155 rfl) rfl
/-! java/lang/StringLatin1 -/
set_option maxRecDepth 100000
def RJ6 : String := "java/lang/StringLatin1"
abbrev cJ6_hashCode : ByteArray := prog_28_method_21_code
def yJ6_hashCode : MethodName := ⟨RJ6, "hashCode", "([B)I"⟩
def dkwJ6_hashCode_2 : List UInt8 := [3, 167, 0, 22, 42, 3, 51, 17, 0, 255, 126, 167, 0, 12, 42, 3, 42, 190, 3, 7, 184, 0, 84, 172]
abbrev dktJ6_hashCode_2 : List UInt8 := dkwJ6_hashCode_2 ++ []
def dkwJ6_hashCode_1 : List UInt8 := [171, 0, 0, 0, 0, 40, 0, 0, 0, 2, 0, 0, 0, 0, 0, 0, 0, 26, 0, 0, 0, 1, 0, 0, 0, 30]
abbrev dktJ6_hashCode_1 : List UInt8 := dkwJ6_hashCode_1 ++ dktJ6_hashCode_2
def dkwJ6_hashCode_0 : List UInt8 := [42, 190]
abbrev dktJ6_hashCode_0 : List UInt8 := dkwJ6_hashCode_0 ++ dktJ6_hashCode_1
theorem dksJ6_hashCode_0 : cJ6_hashCode.data.toList.drop 0 = dktJ6_hashCode_0 := by decide +kernel
theorem dksJ6_hashCode_1 : cJ6_hashCode.data.toList.drop 2 = dktJ6_hashCode_1 := dk_seg dksJ6_hashCode_0 2 rfl rfl
theorem dksJ6_hashCode_2 : cJ6_hashCode.data.toList.drop 28 = dktJ6_hashCode_2 := dk_seg dksJ6_hashCode_1 26 rfl rfl
theorem dJ6_hashCode_0 : decode cJ6_hashCode 0 = .ok (.aload_n 0, 1) := dk_42 (dk_at dksJ6_hashCode_0 0 rfl rfl)
theorem dJ6_hashCode_1 : decode cJ6_hashCode 1 = .ok (.arraylength, 1) := dk_190 (dk_at dksJ6_hashCode_0 1 rfl rfl)
theorem dJ6_hashCode_2 : decode cJ6_hashCode 2 = .ok (.lookupswitch 40 #[(0, 26), (1, 30)], 26) := by decide +kernel
theorem dJ6_hashCode_28 : decode cJ6_hashCode 28 = .ok (.iconst 0, 1) := dk_3 (dk_at dksJ6_hashCode_2 0 rfl rfl)
theorem dJ6_hashCode_29 : decode cJ6_hashCode 29 = .ok (.goto 22, 3) := dk_167 0 22 (dk_at dksJ6_hashCode_2 1 rfl rfl)
theorem dJ6_hashCode_32 : decode cJ6_hashCode 32 = .ok (.aload_n 0, 1) := dk_42 (dk_at dksJ6_hashCode_2 4 rfl rfl)
theorem dJ6_hashCode_33 : decode cJ6_hashCode 33 = .ok (.iconst 0, 1) := dk_3 (dk_at dksJ6_hashCode_2 5 rfl rfl)
theorem dJ6_hashCode_34 : decode cJ6_hashCode 34 = .ok (.baload, 1) := dk_51 (dk_at dksJ6_hashCode_2 6 rfl rfl)
theorem dJ6_hashCode_35 : decode cJ6_hashCode 35 = .ok (.sipush 255, 3) := dk_17 0 255 (dk_at dksJ6_hashCode_2 7 rfl rfl)
theorem dJ6_hashCode_38 : decode cJ6_hashCode 38 = .ok (.iand, 1) := dk_126 (dk_at dksJ6_hashCode_2 10 rfl rfl)
theorem dJ6_hashCode_39 : decode cJ6_hashCode 39 = .ok (.goto 12, 3) := dk_167 0 12 (dk_at dksJ6_hashCode_2 11 rfl rfl)
theorem dJ6_hashCode_42 : decode cJ6_hashCode 42 = .ok (.aload_n 0, 1) := dk_42 (dk_at dksJ6_hashCode_2 14 rfl rfl)
theorem dJ6_hashCode_43 : decode cJ6_hashCode 43 = .ok (.iconst 0, 1) := dk_3 (dk_at dksJ6_hashCode_2 15 rfl rfl)
theorem dJ6_hashCode_44 : decode cJ6_hashCode 44 = .ok (.aload_n 0, 1) := dk_42 (dk_at dksJ6_hashCode_2 16 rfl rfl)
theorem dJ6_hashCode_45 : decode cJ6_hashCode 45 = .ok (.arraylength, 1) := dk_190 (dk_at dksJ6_hashCode_2 17 rfl rfl)
theorem dJ6_hashCode_46 : decode cJ6_hashCode 46 = .ok (.iconst 0, 1) := dk_3 (dk_at dksJ6_hashCode_2 18 rfl rfl)
theorem dJ6_hashCode_47 : decode cJ6_hashCode 47 = .ok (.iconst 4, 1) := dk_7 (dk_at dksJ6_hashCode_2 19 rfl rfl)
theorem dJ6_hashCode_48 : decode cJ6_hashCode 48 = .ok (.invokestatic 84, 3) := dk_184 0 84 (dk_at dksJ6_hashCode_2 20 rfl rfl)
theorem dJ6_hashCode_51 : decode cJ6_hashCode 51 = .ok (.ireturn, 1) := dk_172 (dk_at dksJ6_hashCode_2 23 rfl rfl)
abbrev cJ6_equals : ByteArray := prog_28_method_13_code
def yJ6_equals : MethodName := ⟨RJ6, "equals", "([B[B)Z"⟩
def dkwJ6_equals_1 : List UInt8 := [3, 172, 132, 2, 1, 167, 255, 236, 4, 172, 3, 172]
abbrev dktJ6_equals_1 : List UInt8 := dkwJ6_equals_1 ++ []
def dkwJ6_equals_0 : List UInt8 := [42, 190, 43, 190, 160, 0, 30, 3, 61, 28, 42, 190, 162, 0, 20, 42, 28, 51, 43, 28, 51, 159, 0, 5]
abbrev dktJ6_equals_0 : List UInt8 := dkwJ6_equals_0 ++ dktJ6_equals_1
theorem dksJ6_equals_0 : cJ6_equals.data.toList.drop 0 = dktJ6_equals_0 := by decide +kernel
theorem dksJ6_equals_1 : cJ6_equals.data.toList.drop 24 = dktJ6_equals_1 := dk_seg dksJ6_equals_0 24 rfl rfl
theorem dJ6_equals_0 : decode cJ6_equals 0 = .ok (.aload_n 0, 1) := dk_42 (dk_at dksJ6_equals_0 0 rfl rfl)
theorem dJ6_equals_1 : decode cJ6_equals 1 = .ok (.arraylength, 1) := dk_190 (dk_at dksJ6_equals_0 1 rfl rfl)
theorem dJ6_equals_2 : decode cJ6_equals 2 = .ok (.aload_n 1, 1) := dk_43 (dk_at dksJ6_equals_0 2 rfl rfl)
theorem dJ6_equals_3 : decode cJ6_equals 3 = .ok (.arraylength, 1) := dk_190 (dk_at dksJ6_equals_0 3 rfl rfl)
theorem dJ6_equals_4 : decode cJ6_equals 4 = .ok (.if_icmp .ne 30, 3) := dk_160 0 30 (dk_at dksJ6_equals_0 4 rfl rfl)
theorem dJ6_equals_7 : decode cJ6_equals 7 = .ok (.iconst 0, 1) := dk_3 (dk_at dksJ6_equals_0 7 rfl rfl)
theorem dJ6_equals_8 : decode cJ6_equals 8 = .ok (.istore_n 2, 1) := dk_61 (dk_at dksJ6_equals_0 8 rfl rfl)
theorem dJ6_equals_9 : decode cJ6_equals 9 = .ok (.iload_n 2, 1) := dk_28 (dk_at dksJ6_equals_0 9 rfl rfl)
theorem dJ6_equals_10 : decode cJ6_equals 10 = .ok (.aload_n 0, 1) := dk_42 (dk_at dksJ6_equals_0 10 rfl rfl)
theorem dJ6_equals_11 : decode cJ6_equals 11 = .ok (.arraylength, 1) := dk_190 (dk_at dksJ6_equals_0 11 rfl rfl)
theorem dJ6_equals_12 : decode cJ6_equals 12 = .ok (.if_icmp .ge 20, 3) := dk_162 0 20 (dk_at dksJ6_equals_0 12 rfl rfl)
theorem dJ6_equals_15 : decode cJ6_equals 15 = .ok (.aload_n 0, 1) := dk_42 (dk_at dksJ6_equals_0 15 rfl rfl)
theorem dJ6_equals_16 : decode cJ6_equals 16 = .ok (.iload_n 2, 1) := dk_28 (dk_at dksJ6_equals_0 16 rfl rfl)
theorem dJ6_equals_17 : decode cJ6_equals 17 = .ok (.baload, 1) := dk_51 (dk_at dksJ6_equals_0 17 rfl rfl)
theorem dJ6_equals_18 : decode cJ6_equals 18 = .ok (.aload_n 1, 1) := dk_43 (dk_at dksJ6_equals_0 18 rfl rfl)
theorem dJ6_equals_19 : decode cJ6_equals 19 = .ok (.iload_n 2, 1) := dk_28 (dk_at dksJ6_equals_0 19 rfl rfl)
theorem dJ6_equals_20 : decode cJ6_equals 20 = .ok (.baload, 1) := dk_51 (dk_at dksJ6_equals_0 20 rfl rfl)
theorem dJ6_equals_21 : decode cJ6_equals 21 = .ok (.if_icmp .eq 5, 3) := dk_159 0 5 (dk_at dksJ6_equals_0 21 rfl rfl)
theorem dJ6_equals_24 : decode cJ6_equals 24 = .ok (.iconst 0, 1) := dk_3 (dk_at dksJ6_equals_1 0 rfl rfl)
theorem dJ6_equals_25 : decode cJ6_equals 25 = .ok (.ireturn, 1) := dk_172 (dk_at dksJ6_equals_1 1 rfl rfl)
theorem dJ6_equals_26 : decode cJ6_equals 26 = .ok (.iinc 2 1, 3) := dk_132 2 1 (dk_at dksJ6_equals_1 2 rfl rfl)
theorem dJ6_equals_29 : decode cJ6_equals 29 = .ok (.goto (-20), 3) := dk_167 255 236 (dk_at dksJ6_equals_1 5 rfl rfl)
theorem dJ6_equals_32 : decode cJ6_equals 32 = .ok (.iconst 1, 1) := dk_4 (dk_at dksJ6_equals_1 8 rfl rfl)
theorem dJ6_equals_33 : decode cJ6_equals 33 = .ok (.ireturn, 1) := dk_172 (dk_at dksJ6_equals_1 9 rfl rfl)
theorem dJ6_equals_34 : decode cJ6_equals 34 = .ok (.iconst 0, 1) := dk_3 (dk_at dksJ6_equals_1 10 rfl rfl)
theorem dJ6_equals_35 : decode cJ6_equals 35 = .ok (.ireturn, 1) := dk_172 (dk_at dksJ6_equals_1 11 rfl rfl)
abbrev cJ6_charAt : ByteArray := prog_28_method_2_code
def yJ6_charAt : MethodName := ⟨RJ6, "charAt", "([BI)C"⟩
def dkwJ6_charAt_0 : List UInt8 := [27, 42, 190, 184, 0, 9, 42, 27, 51, 17, 0, 255, 126, 146, 172]
abbrev dktJ6_charAt_0 : List UInt8 := dkwJ6_charAt_0 ++ []
theorem dksJ6_charAt_0 : cJ6_charAt.data.toList.drop 0 = dktJ6_charAt_0 := by decide +kernel
theorem dJ6_charAt_0 : decode cJ6_charAt 0 = .ok (.iload_n 1, 1) := dk_27 (dk_at dksJ6_charAt_0 0 rfl rfl)
theorem dJ6_charAt_1 : decode cJ6_charAt 1 = .ok (.aload_n 0, 1) := dk_42 (dk_at dksJ6_charAt_0 1 rfl rfl)
theorem dJ6_charAt_2 : decode cJ6_charAt 2 = .ok (.arraylength, 1) := dk_190 (dk_at dksJ6_charAt_0 2 rfl rfl)
theorem dJ6_charAt_3 : decode cJ6_charAt 3 = .ok (.invokestatic 9, 3) := dk_184 0 9 (dk_at dksJ6_charAt_0 3 rfl rfl)
theorem dJ6_charAt_6 : decode cJ6_charAt 6 = .ok (.aload_n 0, 1) := dk_42 (dk_at dksJ6_charAt_0 6 rfl rfl)
theorem dJ6_charAt_7 : decode cJ6_charAt 7 = .ok (.iload_n 1, 1) := dk_27 (dk_at dksJ6_charAt_0 7 rfl rfl)
theorem dJ6_charAt_8 : decode cJ6_charAt 8 = .ok (.baload, 1) := dk_51 (dk_at dksJ6_charAt_0 8 rfl rfl)
theorem dJ6_charAt_9 : decode cJ6_charAt 9 = .ok (.sipush 255, 3) := dk_17 0 255 (dk_at dksJ6_charAt_0 9 rfl rfl)
theorem dJ6_charAt_12 : decode cJ6_charAt 12 = .ok (.iand, 1) := dk_126 (dk_at dksJ6_charAt_0 12 rfl rfl)
theorem dJ6_charAt_13 : decode cJ6_charAt 13 = .ok (.i2c, 1) := dk_146 (dk_at dksJ6_charAt_0 13 rfl rfl)
theorem dJ6_charAt_14 : decode cJ6_charAt 14 = .ok (.ireturn, 1) := dk_172 (dk_at dksJ6_charAt_0 14 rfl rfl)
theorem q129 : (Jvm.Cond.initialized "java/lang/StringLatin1") ∈ lw_all := lw_g (lw_at lw_m1 19 rfl) rfl
theorem q684 : (Jvm.Cond.static ({ cls := "java/lang/StringLatin1", name := "hashCode", desc := "([B)I" } : Jvm.MethodName)) ∈ lw_all := lw_g (lw_at lw_m3 94 rfl) rfl
theorem q685 : (Jvm.Cond.code ({ cls := "java/lang/StringLatin1", name := "hashCode", desc := "([B)I" } : Jvm.MethodName) prog_28_method_21_code (1 : Nat) (Option.some Jvm.ClassFile.FieldType.int)) ∈ lw_all := lw_g (lw_at lw_m3 95 rfl) rfl
theorem q686 : (Jvm.Cond.methodLink "java/lang/StringLatin1" (84 : Nat) ({ cls := "jdk/internal/util/ArraysSupport", name := "vectorizedHashCode", desc := "(Ljava/lang/Object;IIII)I" } : Jvm.MethodName)) ∈ lw_all := lw_g (lw_at lw_m3 96 rfl) rfl
theorem q735 : (Jvm.Cond.static ({ cls := "java/lang/StringLatin1", name := "equals", desc := "([B[B)Z" } : Jvm.MethodName)) ∈ lw_all := lw_g (lw_at lw_m3 145 rfl) rfl
theorem q736 : (Jvm.Cond.code ({ cls := "java/lang/StringLatin1", name := "equals", desc := "([B[B)Z" } : Jvm.MethodName) prog_28_method_13_code (3 : Nat) (Option.some Jvm.ClassFile.FieldType.boolean)) ∈ lw_all := lw_g (lw_at lw_m3 146 rfl) rfl
theorem q1691 : (Jvm.Cond.static ({ cls := "java/lang/StringLatin1", name := "charAt", desc := "([BI)C" } : Jvm.MethodName)) ∈ lw_all := lw_g (lw_at lw_m7 141 rfl) rfl
theorem q1692 : (Jvm.Cond.code ({ cls := "java/lang/StringLatin1", name := "charAt", desc := "([BI)C" } : Jvm.MethodName) prog_28_method_2_code (2 : Nat) (Option.some Jvm.ClassFile.FieldType.char)) ∈ lw_all := lw_g (lw_at lw_m7 142 rfl) rfl
theorem q1693 : (Jvm.Cond.methodLink "java/lang/StringLatin1" (9 : Nat) ({ cls := "java/lang/String", name := "checkIndex", desc := "(II)V" } : Jvm.MethodName)) ∈ lw_all := lw_g (lw_at lw_m7 143 rfl) rfl
/-! jdk/internal/util/ArraysSupport -/
set_option maxRecDepth 100000
def RJ7 : String := "jdk/internal/util/ArraysSupport"
abbrev cJ7_vectorizedHashCode : ByteArray := prog_37_method_4_code
def yJ7_vectorizedHashCode : MethodName := ⟨RJ7, "vectorizedHashCode", "(Ljava/lang/Object;IIII)I"⟩
def dkwJ7_vectorizedHashCode_6 : List UInt8 := [183, 0, 91, 18, 92, 182, 0, 94, 21, 4, 182, 0, 98, 182, 0, 101, 183, 0, 105, 191, 172]
abbrev dktJ7_vectorizedHashCode_6 : List UInt8 := dkwJ7_vectorizedHashCode_6 ++ []
def dkwJ7_vectorizedHashCode_5 : List UInt8 := [167, 0, 44, 29, 42, 192, 0, 82, 27, 28, 184, 0, 84, 167, 0, 31, 187, 0, 87, 89, 187, 0, 89, 89]
abbrev dktJ7_vectorizedHashCode_5 : List UInt8 := dkwJ7_vectorizedHashCode_5 ++ dktJ7_vectorizedHashCode_6
def dkwJ7_vectorizedHashCode_4 : List UInt8 := [29, 42, 192, 0, 60, 27, 28, 184, 0, 75, 167, 0, 57, 29, 42, 192, 0, 77, 27, 28, 184, 0, 79]
abbrev dktJ7_vectorizedHashCode_4 : List UInt8 := dkwJ7_vectorizedHashCode_4 ++ dktJ7_vectorizedHashCode_5
def dkwJ7_vectorizedHashCode_3 : List UInt8 := [192, 0, 60, 27, 28, 184, 0, 66, 167, 0, 83, 29, 42, 192, 0, 69, 27, 28, 184, 0, 71, 167, 0, 70]
abbrev dktJ7_vectorizedHashCode_3 : List UInt8 := dkwJ7_vectorizedHashCode_3 ++ dktJ7_vectorizedHashCode_4
def dkwJ7_vectorizedHashCode_2 : List UInt8 := [29, 42, 192, 0, 60, 27, 28, 184, 0, 62, 167, 0, 103, 42, 193, 0, 60, 153, 0, 16, 29, 42]
abbrev dktJ7_vectorizedHashCode_2 : List UInt8 := dkwJ7_vectorizedHashCode_2 ++ dktJ7_vectorizedHashCode_3
def dkwJ7_vectorizedHashCode_1 : List UInt8 := [170, 0, 0, 0, 0, 127, 0, 0, 0, 4, 0, 0, 0, 10, 0, 0, 0, 42, 0, 0, 0, 55, 0, 0, 0, 127, 0, 0, 0, 127, 0, 0, 0, 88, 0, 0, 0, 101, 0, 0, 0, 114]
abbrev dktJ7_vectorizedHashCode_1 : List UInt8 := dkwJ7_vectorizedHashCode_1 ++ dktJ7_vectorizedHashCode_2
def dkwJ7_vectorizedHashCode_0 : List UInt8 := [21, 4]
abbrev dktJ7_vectorizedHashCode_0 : List UInt8 := dkwJ7_vectorizedHashCode_0 ++ dktJ7_vectorizedHashCode_1
theorem dksJ7_vectorizedHashCode_0 : cJ7_vectorizedHashCode.data.toList.drop 0 = dktJ7_vectorizedHashCode_0 := by decide +kernel
theorem dksJ7_vectorizedHashCode_1 : cJ7_vectorizedHashCode.data.toList.drop 2 = dktJ7_vectorizedHashCode_1 := dk_seg dksJ7_vectorizedHashCode_0 2 rfl rfl
theorem dksJ7_vectorizedHashCode_2 : cJ7_vectorizedHashCode.data.toList.drop 44 = dktJ7_vectorizedHashCode_2 := dk_seg dksJ7_vectorizedHashCode_1 42 rfl rfl
theorem dksJ7_vectorizedHashCode_3 : cJ7_vectorizedHashCode.data.toList.drop 66 = dktJ7_vectorizedHashCode_3 := dk_seg dksJ7_vectorizedHashCode_2 22 rfl rfl
theorem dksJ7_vectorizedHashCode_4 : cJ7_vectorizedHashCode.data.toList.drop 90 = dktJ7_vectorizedHashCode_4 := dk_seg dksJ7_vectorizedHashCode_3 24 rfl rfl
theorem dksJ7_vectorizedHashCode_5 : cJ7_vectorizedHashCode.data.toList.drop 113 = dktJ7_vectorizedHashCode_5 := dk_seg dksJ7_vectorizedHashCode_4 23 rfl rfl
theorem dksJ7_vectorizedHashCode_6 : cJ7_vectorizedHashCode.data.toList.drop 137 = dktJ7_vectorizedHashCode_6 := dk_seg dksJ7_vectorizedHashCode_5 24 rfl rfl
theorem dJ7_vectorizedHashCode_0 : decode cJ7_vectorizedHashCode 0 = .ok (.iload 4, 2) := dk_21 4 (dk_at dksJ7_vectorizedHashCode_0 0 rfl rfl)
theorem dJ7_vectorizedHashCode_2 : decode cJ7_vectorizedHashCode 2 = .ok (.tableswitch 127 4 10 #[42, 55, 127, 127, 88, 101, 114], 42) := by decide +kernel
theorem dJ7_vectorizedHashCode_44 : decode cJ7_vectorizedHashCode 44 = .ok (.iload_n 3, 1) := dk_29 (dk_at dksJ7_vectorizedHashCode_2 0 rfl rfl)
theorem dJ7_vectorizedHashCode_45 : decode cJ7_vectorizedHashCode 45 = .ok (.aload_n 0, 1) := dk_42 (dk_at dksJ7_vectorizedHashCode_2 1 rfl rfl)
theorem dJ7_vectorizedHashCode_46 : decode cJ7_vectorizedHashCode 46 = .ok (.checkcast 60, 3) := dk_192 0 60 (dk_at dksJ7_vectorizedHashCode_2 2 rfl rfl)
theorem dJ7_vectorizedHashCode_49 : decode cJ7_vectorizedHashCode 49 = .ok (.iload_n 1, 1) := dk_27 (dk_at dksJ7_vectorizedHashCode_2 5 rfl rfl)
theorem dJ7_vectorizedHashCode_50 : decode cJ7_vectorizedHashCode 50 = .ok (.iload_n 2, 1) := dk_28 (dk_at dksJ7_vectorizedHashCode_2 6 rfl rfl)
theorem dJ7_vectorizedHashCode_51 : decode cJ7_vectorizedHashCode 51 = .ok (.invokestatic 62, 3) := dk_184 0 62 (dk_at dksJ7_vectorizedHashCode_2 7 rfl rfl)
theorem dJ7_vectorizedHashCode_54 : decode cJ7_vectorizedHashCode 54 = .ok (.goto 103, 3) := dk_167 0 103 (dk_at dksJ7_vectorizedHashCode_2 10 rfl rfl)
theorem dJ7_vectorizedHashCode_57 : decode cJ7_vectorizedHashCode 57 = .ok (.aload_n 0, 1) := dk_42 (dk_at dksJ7_vectorizedHashCode_2 13 rfl rfl)
theorem dJ7_vectorizedHashCode_58 : decode cJ7_vectorizedHashCode 58 = .ok (.instanceof 60, 3) := dk_193 0 60 (dk_at dksJ7_vectorizedHashCode_2 14 rfl rfl)
theorem dJ7_vectorizedHashCode_61 : decode cJ7_vectorizedHashCode 61 = .ok (.ifCond .eq 16, 3) := dk_153 0 16 (dk_at dksJ7_vectorizedHashCode_2 17 rfl rfl)
theorem dJ7_vectorizedHashCode_64 : decode cJ7_vectorizedHashCode 64 = .ok (.iload_n 3, 1) := dk_29 (dk_at dksJ7_vectorizedHashCode_2 20 rfl rfl)
theorem dJ7_vectorizedHashCode_65 : decode cJ7_vectorizedHashCode 65 = .ok (.aload_n 0, 1) := dk_42 (dk_at dksJ7_vectorizedHashCode_2 21 rfl rfl)
theorem dJ7_vectorizedHashCode_66 : decode cJ7_vectorizedHashCode 66 = .ok (.checkcast 60, 3) := dk_192 0 60 (dk_at dksJ7_vectorizedHashCode_3 0 rfl rfl)
theorem dJ7_vectorizedHashCode_69 : decode cJ7_vectorizedHashCode 69 = .ok (.iload_n 1, 1) := dk_27 (dk_at dksJ7_vectorizedHashCode_3 3 rfl rfl)
theorem dJ7_vectorizedHashCode_70 : decode cJ7_vectorizedHashCode 70 = .ok (.iload_n 2, 1) := dk_28 (dk_at dksJ7_vectorizedHashCode_3 4 rfl rfl)
theorem dJ7_vectorizedHashCode_71 : decode cJ7_vectorizedHashCode 71 = .ok (.invokestatic 66, 3) := dk_184 0 66 (dk_at dksJ7_vectorizedHashCode_3 5 rfl rfl)
theorem dJ7_vectorizedHashCode_74 : decode cJ7_vectorizedHashCode 74 = .ok (.goto 83, 3) := dk_167 0 83 (dk_at dksJ7_vectorizedHashCode_3 8 rfl rfl)
theorem dJ7_vectorizedHashCode_77 : decode cJ7_vectorizedHashCode 77 = .ok (.iload_n 3, 1) := dk_29 (dk_at dksJ7_vectorizedHashCode_3 11 rfl rfl)
theorem dJ7_vectorizedHashCode_78 : decode cJ7_vectorizedHashCode 78 = .ok (.aload_n 0, 1) := dk_42 (dk_at dksJ7_vectorizedHashCode_3 12 rfl rfl)
theorem dJ7_vectorizedHashCode_79 : decode cJ7_vectorizedHashCode 79 = .ok (.checkcast 69, 3) := dk_192 0 69 (dk_at dksJ7_vectorizedHashCode_3 13 rfl rfl)
theorem dJ7_vectorizedHashCode_82 : decode cJ7_vectorizedHashCode 82 = .ok (.iload_n 1, 1) := dk_27 (dk_at dksJ7_vectorizedHashCode_3 16 rfl rfl)
theorem dJ7_vectorizedHashCode_83 : decode cJ7_vectorizedHashCode 83 = .ok (.iload_n 2, 1) := dk_28 (dk_at dksJ7_vectorizedHashCode_3 17 rfl rfl)
theorem dJ7_vectorizedHashCode_84 : decode cJ7_vectorizedHashCode 84 = .ok (.invokestatic 71, 3) := dk_184 0 71 (dk_at dksJ7_vectorizedHashCode_3 18 rfl rfl)
theorem dJ7_vectorizedHashCode_87 : decode cJ7_vectorizedHashCode 87 = .ok (.goto 70, 3) := dk_167 0 70 (dk_at dksJ7_vectorizedHashCode_3 21 rfl rfl)
theorem dJ7_vectorizedHashCode_90 : decode cJ7_vectorizedHashCode 90 = .ok (.iload_n 3, 1) := dk_29 (dk_at dksJ7_vectorizedHashCode_4 0 rfl rfl)
theorem dJ7_vectorizedHashCode_91 : decode cJ7_vectorizedHashCode 91 = .ok (.aload_n 0, 1) := dk_42 (dk_at dksJ7_vectorizedHashCode_4 1 rfl rfl)
theorem dJ7_vectorizedHashCode_92 : decode cJ7_vectorizedHashCode 92 = .ok (.checkcast 60, 3) := dk_192 0 60 (dk_at dksJ7_vectorizedHashCode_4 2 rfl rfl)
theorem dJ7_vectorizedHashCode_95 : decode cJ7_vectorizedHashCode 95 = .ok (.iload_n 1, 1) := dk_27 (dk_at dksJ7_vectorizedHashCode_4 5 rfl rfl)
theorem dJ7_vectorizedHashCode_96 : decode cJ7_vectorizedHashCode 96 = .ok (.iload_n 2, 1) := dk_28 (dk_at dksJ7_vectorizedHashCode_4 6 rfl rfl)
theorem dJ7_vectorizedHashCode_97 : decode cJ7_vectorizedHashCode 97 = .ok (.invokestatic 75, 3) := dk_184 0 75 (dk_at dksJ7_vectorizedHashCode_4 7 rfl rfl)
theorem dJ7_vectorizedHashCode_100 : decode cJ7_vectorizedHashCode 100 = .ok (.goto 57, 3) := dk_167 0 57 (dk_at dksJ7_vectorizedHashCode_4 10 rfl rfl)
theorem dJ7_vectorizedHashCode_103 : decode cJ7_vectorizedHashCode 103 = .ok (.iload_n 3, 1) := dk_29 (dk_at dksJ7_vectorizedHashCode_4 13 rfl rfl)
theorem dJ7_vectorizedHashCode_104 : decode cJ7_vectorizedHashCode 104 = .ok (.aload_n 0, 1) := dk_42 (dk_at dksJ7_vectorizedHashCode_4 14 rfl rfl)
theorem dJ7_vectorizedHashCode_105 : decode cJ7_vectorizedHashCode 105 = .ok (.checkcast 77, 3) := dk_192 0 77 (dk_at dksJ7_vectorizedHashCode_4 15 rfl rfl)
theorem dJ7_vectorizedHashCode_108 : decode cJ7_vectorizedHashCode 108 = .ok (.iload_n 1, 1) := dk_27 (dk_at dksJ7_vectorizedHashCode_4 18 rfl rfl)
theorem dJ7_vectorizedHashCode_109 : decode cJ7_vectorizedHashCode 109 = .ok (.iload_n 2, 1) := dk_28 (dk_at dksJ7_vectorizedHashCode_4 19 rfl rfl)
theorem dJ7_vectorizedHashCode_110 : decode cJ7_vectorizedHashCode 110 = .ok (.invokestatic 79, 3) := dk_184 0 79 (dk_at dksJ7_vectorizedHashCode_4 20 rfl rfl)
theorem dJ7_vectorizedHashCode_113 : decode cJ7_vectorizedHashCode 113 = .ok (.goto 44, 3) := dk_167 0 44 (dk_at dksJ7_vectorizedHashCode_5 0 rfl rfl)
theorem dJ7_vectorizedHashCode_116 : decode cJ7_vectorizedHashCode 116 = .ok (.iload_n 3, 1) := dk_29 (dk_at dksJ7_vectorizedHashCode_5 3 rfl rfl)
theorem dJ7_vectorizedHashCode_117 : decode cJ7_vectorizedHashCode 117 = .ok (.aload_n 0, 1) := dk_42 (dk_at dksJ7_vectorizedHashCode_5 4 rfl rfl)
theorem dJ7_vectorizedHashCode_118 : decode cJ7_vectorizedHashCode 118 = .ok (.checkcast 82, 3) := dk_192 0 82 (dk_at dksJ7_vectorizedHashCode_5 5 rfl rfl)
theorem dJ7_vectorizedHashCode_121 : decode cJ7_vectorizedHashCode 121 = .ok (.iload_n 1, 1) := dk_27 (dk_at dksJ7_vectorizedHashCode_5 8 rfl rfl)
theorem dJ7_vectorizedHashCode_122 : decode cJ7_vectorizedHashCode 122 = .ok (.iload_n 2, 1) := dk_28 (dk_at dksJ7_vectorizedHashCode_5 9 rfl rfl)
theorem dJ7_vectorizedHashCode_123 : decode cJ7_vectorizedHashCode 123 = .ok (.invokestatic 84, 3) := dk_184 0 84 (dk_at dksJ7_vectorizedHashCode_5 10 rfl rfl)
theorem dJ7_vectorizedHashCode_126 : decode cJ7_vectorizedHashCode 126 = .ok (.goto 31, 3) := dk_167 0 31 (dk_at dksJ7_vectorizedHashCode_5 13 rfl rfl)
theorem dJ7_vectorizedHashCode_129 : decode cJ7_vectorizedHashCode 129 = .ok (.new 87, 3) := dk_187 0 87 (dk_at dksJ7_vectorizedHashCode_5 16 rfl rfl)
theorem dJ7_vectorizedHashCode_132 : decode cJ7_vectorizedHashCode 132 = .ok (.dup, 1) := dk_89 (dk_at dksJ7_vectorizedHashCode_5 19 rfl rfl)
theorem dJ7_vectorizedHashCode_133 : decode cJ7_vectorizedHashCode 133 = .ok (.new 89, 3) := dk_187 0 89 (dk_at dksJ7_vectorizedHashCode_5 20 rfl rfl)
theorem dJ7_vectorizedHashCode_136 : decode cJ7_vectorizedHashCode 136 = .ok (.dup, 1) := dk_89 (dk_at dksJ7_vectorizedHashCode_5 23 rfl rfl)
theorem dJ7_vectorizedHashCode_137 : decode cJ7_vectorizedHashCode 137 = .ok (.invokespecial 91, 3) := dk_183 0 91 (dk_at dksJ7_vectorizedHashCode_6 0 rfl rfl)
theorem dJ7_vectorizedHashCode_140 : decode cJ7_vectorizedHashCode 140 = .ok (.ldc 92, 2) := dk_18 92 (dk_at dksJ7_vectorizedHashCode_6 3 rfl rfl)
theorem dJ7_vectorizedHashCode_142 : decode cJ7_vectorizedHashCode 142 = .ok (.invokevirtual 94, 3) := dk_182 0 94 (dk_at dksJ7_vectorizedHashCode_6 5 rfl rfl)
theorem dJ7_vectorizedHashCode_145 : decode cJ7_vectorizedHashCode 145 = .ok (.iload 4, 2) := dk_21 4 (dk_at dksJ7_vectorizedHashCode_6 8 rfl rfl)
theorem dJ7_vectorizedHashCode_147 : decode cJ7_vectorizedHashCode 147 = .ok (.invokevirtual 98, 3) := dk_182 0 98 (dk_at dksJ7_vectorizedHashCode_6 10 rfl rfl)
theorem dJ7_vectorizedHashCode_150 : decode cJ7_vectorizedHashCode 150 = .ok (.invokevirtual 101, 3) := dk_182 0 101 (dk_at dksJ7_vectorizedHashCode_6 13 rfl rfl)
theorem dJ7_vectorizedHashCode_153 : decode cJ7_vectorizedHashCode 153 = .ok (.invokespecial 105, 3) := dk_183 0 105 (dk_at dksJ7_vectorizedHashCode_6 16 rfl rfl)
theorem dJ7_vectorizedHashCode_156 : decode cJ7_vectorizedHashCode 156 = .ok (.athrow, 1) := dk_191 (dk_at dksJ7_vectorizedHashCode_6 19 rfl rfl)
theorem dJ7_vectorizedHashCode_157 : decode cJ7_vectorizedHashCode 157 = .ok (.ireturn, 1) := dk_172 (dk_at dksJ7_vectorizedHashCode_6 20 rfl rfl)
abbrev cJ7_signedHashCode : ByteArray := prog_37_method_5_code
def yJ7_signedHashCode : MethodName := ⟨RJ7, "signedHashCode", "(I[BII)I"⟩
def dkwJ7_signedHashCode_1 : List UInt8 := [17, 0, 255, 126, 96, 59, 132, 5, 1, 167, 255, 232, 26, 172]
abbrev dktJ7_signedHashCode_1 : List UInt8 := dkwJ7_signedHashCode_1 ++ []
def dkwJ7_signedHashCode_0 : List UInt8 := [28, 29, 96, 54, 4, 28, 54, 5, 21, 5, 21, 4, 162, 0, 23, 16, 31, 26, 104, 43, 21, 5, 51]
abbrev dktJ7_signedHashCode_0 : List UInt8 := dkwJ7_signedHashCode_0 ++ dktJ7_signedHashCode_1
theorem dksJ7_signedHashCode_0 : cJ7_signedHashCode.data.toList.drop 0 = dktJ7_signedHashCode_0 := by decide +kernel
theorem dksJ7_signedHashCode_1 : cJ7_signedHashCode.data.toList.drop 23 = dktJ7_signedHashCode_1 := dk_seg dksJ7_signedHashCode_0 23 rfl rfl
theorem dJ7_signedHashCode_0 : decode cJ7_signedHashCode 0 = .ok (.iload_n 2, 1) := dk_28 (dk_at dksJ7_signedHashCode_0 0 rfl rfl)
theorem dJ7_signedHashCode_1 : decode cJ7_signedHashCode 1 = .ok (.iload_n 3, 1) := dk_29 (dk_at dksJ7_signedHashCode_0 1 rfl rfl)
theorem dJ7_signedHashCode_2 : decode cJ7_signedHashCode 2 = .ok (.iadd, 1) := dk_96 (dk_at dksJ7_signedHashCode_0 2 rfl rfl)
theorem dJ7_signedHashCode_3 : decode cJ7_signedHashCode 3 = .ok (.istore 4, 2) := dk_54 4 (dk_at dksJ7_signedHashCode_0 3 rfl rfl)
theorem dJ7_signedHashCode_5 : decode cJ7_signedHashCode 5 = .ok (.iload_n 2, 1) := dk_28 (dk_at dksJ7_signedHashCode_0 5 rfl rfl)
theorem dJ7_signedHashCode_6 : decode cJ7_signedHashCode 6 = .ok (.istore 5, 2) := dk_54 5 (dk_at dksJ7_signedHashCode_0 6 rfl rfl)
theorem dJ7_signedHashCode_8 : decode cJ7_signedHashCode 8 = .ok (.iload 5, 2) := dk_21 5 (dk_at dksJ7_signedHashCode_0 8 rfl rfl)
theorem dJ7_signedHashCode_10 : decode cJ7_signedHashCode 10 = .ok (.iload 4, 2) := dk_21 4 (dk_at dksJ7_signedHashCode_0 10 rfl rfl)
theorem dJ7_signedHashCode_12 : decode cJ7_signedHashCode 12 = .ok (.if_icmp .ge 23, 3) := dk_162 0 23 (dk_at dksJ7_signedHashCode_0 12 rfl rfl)
theorem dJ7_signedHashCode_15 : decode cJ7_signedHashCode 15 = .ok (.bipush 31, 2) := dk_16 31 (dk_at dksJ7_signedHashCode_0 15 rfl rfl)
theorem dJ7_signedHashCode_17 : decode cJ7_signedHashCode 17 = .ok (.iload_n 0, 1) := dk_26 (dk_at dksJ7_signedHashCode_0 17 rfl rfl)
theorem dJ7_signedHashCode_18 : decode cJ7_signedHashCode 18 = .ok (.imul, 1) := dk_104 (dk_at dksJ7_signedHashCode_0 18 rfl rfl)
theorem dJ7_signedHashCode_19 : decode cJ7_signedHashCode 19 = .ok (.aload_n 1, 1) := dk_43 (dk_at dksJ7_signedHashCode_0 19 rfl rfl)
theorem dJ7_signedHashCode_20 : decode cJ7_signedHashCode 20 = .ok (.iload 5, 2) := dk_21 5 (dk_at dksJ7_signedHashCode_0 20 rfl rfl)
theorem dJ7_signedHashCode_22 : decode cJ7_signedHashCode 22 = .ok (.baload, 1) := dk_51 (dk_at dksJ7_signedHashCode_0 22 rfl rfl)
theorem dJ7_signedHashCode_23 : decode cJ7_signedHashCode 23 = .ok (.sipush 255, 3) := dk_17 0 255 (dk_at dksJ7_signedHashCode_1 0 rfl rfl)
theorem dJ7_signedHashCode_26 : decode cJ7_signedHashCode 26 = .ok (.iand, 1) := dk_126 (dk_at dksJ7_signedHashCode_1 3 rfl rfl)
theorem dJ7_signedHashCode_27 : decode cJ7_signedHashCode 27 = .ok (.iadd, 1) := dk_96 (dk_at dksJ7_signedHashCode_1 4 rfl rfl)
theorem dJ7_signedHashCode_28 : decode cJ7_signedHashCode 28 = .ok (.istore_n 0, 1) := dk_59 (dk_at dksJ7_signedHashCode_1 5 rfl rfl)
theorem dJ7_signedHashCode_29 : decode cJ7_signedHashCode 29 = .ok (.iinc 5 1, 3) := dk_132 5 1 (dk_at dksJ7_signedHashCode_1 6 rfl rfl)
theorem dJ7_signedHashCode_32 : decode cJ7_signedHashCode 32 = .ok (.goto (-24), 3) := dk_167 255 232 (dk_at dksJ7_signedHashCode_1 9 rfl rfl)
theorem dJ7_signedHashCode_35 : decode cJ7_signedHashCode 35 = .ok (.iload_n 0, 1) := dk_26 (dk_at dksJ7_signedHashCode_1 12 rfl rfl)
theorem dJ7_signedHashCode_36 : decode cJ7_signedHashCode 36 = .ok (.ireturn, 1) := dk_172 (dk_at dksJ7_signedHashCode_1 13 rfl rfl)
abbrev cJ7_utf16hashCode : ByteArray := prog_37_method_10_code
def yJ7_utf16hashCode : MethodName := ⟨RJ7, "utf16hashCode", "(I[BII)I"⟩
def dkwJ7_utf16hashCode_1 : List UInt8 := [21, 5, 185, 0, 110, 3, 0, 96, 59, 132, 5, 1, 167, 255, 229, 26, 172]
abbrev dktJ7_utf16hashCode_1 : List UInt8 := dkwJ7_utf16hashCode_1 ++ []
def dkwJ7_utf16hashCode_0 : List UInt8 := [28, 29, 96, 54, 4, 28, 54, 5, 21, 5, 21, 4, 162, 0, 26, 16, 31, 26, 104, 178, 0, 106, 43]
abbrev dktJ7_utf16hashCode_0 : List UInt8 := dkwJ7_utf16hashCode_0 ++ dktJ7_utf16hashCode_1
theorem dksJ7_utf16hashCode_0 : cJ7_utf16hashCode.data.toList.drop 0 = dktJ7_utf16hashCode_0 := by decide +kernel
theorem dksJ7_utf16hashCode_1 : cJ7_utf16hashCode.data.toList.drop 23 = dktJ7_utf16hashCode_1 := dk_seg dksJ7_utf16hashCode_0 23 rfl rfl
theorem dJ7_utf16hashCode_0 : decode cJ7_utf16hashCode 0 = .ok (.iload_n 2, 1) := dk_28 (dk_at dksJ7_utf16hashCode_0 0 rfl rfl)
theorem dJ7_utf16hashCode_1 : decode cJ7_utf16hashCode 1 = .ok (.iload_n 3, 1) := dk_29 (dk_at dksJ7_utf16hashCode_0 1 rfl rfl)
theorem dJ7_utf16hashCode_2 : decode cJ7_utf16hashCode 2 = .ok (.iadd, 1) := dk_96 (dk_at dksJ7_utf16hashCode_0 2 rfl rfl)
theorem dJ7_utf16hashCode_3 : decode cJ7_utf16hashCode 3 = .ok (.istore 4, 2) := dk_54 4 (dk_at dksJ7_utf16hashCode_0 3 rfl rfl)
theorem dJ7_utf16hashCode_5 : decode cJ7_utf16hashCode 5 = .ok (.iload_n 2, 1) := dk_28 (dk_at dksJ7_utf16hashCode_0 5 rfl rfl)
theorem dJ7_utf16hashCode_6 : decode cJ7_utf16hashCode 6 = .ok (.istore 5, 2) := dk_54 5 (dk_at dksJ7_utf16hashCode_0 6 rfl rfl)
theorem dJ7_utf16hashCode_8 : decode cJ7_utf16hashCode 8 = .ok (.iload 5, 2) := dk_21 5 (dk_at dksJ7_utf16hashCode_0 8 rfl rfl)
theorem dJ7_utf16hashCode_10 : decode cJ7_utf16hashCode 10 = .ok (.iload 4, 2) := dk_21 4 (dk_at dksJ7_utf16hashCode_0 10 rfl rfl)
theorem dJ7_utf16hashCode_12 : decode cJ7_utf16hashCode 12 = .ok (.if_icmp .ge 26, 3) := dk_162 0 26 (dk_at dksJ7_utf16hashCode_0 12 rfl rfl)
theorem dJ7_utf16hashCode_15 : decode cJ7_utf16hashCode 15 = .ok (.bipush 31, 2) := dk_16 31 (dk_at dksJ7_utf16hashCode_0 15 rfl rfl)
theorem dJ7_utf16hashCode_17 : decode cJ7_utf16hashCode 17 = .ok (.iload_n 0, 1) := dk_26 (dk_at dksJ7_utf16hashCode_0 17 rfl rfl)
theorem dJ7_utf16hashCode_18 : decode cJ7_utf16hashCode 18 = .ok (.imul, 1) := dk_104 (dk_at dksJ7_utf16hashCode_0 18 rfl rfl)
theorem dJ7_utf16hashCode_19 : decode cJ7_utf16hashCode 19 = .ok (.getstatic 106, 3) := dk_178 0 106 (dk_at dksJ7_utf16hashCode_0 19 rfl rfl)
theorem dJ7_utf16hashCode_22 : decode cJ7_utf16hashCode 22 = .ok (.aload_n 1, 1) := dk_43 (dk_at dksJ7_utf16hashCode_0 22 rfl rfl)
theorem dJ7_utf16hashCode_23 : decode cJ7_utf16hashCode 23 = .ok (.iload 5, 2) := dk_21 5 (dk_at dksJ7_utf16hashCode_1 0 rfl rfl)
theorem dJ7_utf16hashCode_25 : decode cJ7_utf16hashCode 25 = .ok (.invokeinterface 110 3, 5) := by decide +kernel
theorem dJ7_utf16hashCode_30 : decode cJ7_utf16hashCode 30 = .ok (.iadd, 1) := dk_96 (dk_at dksJ7_utf16hashCode_1 7 rfl rfl)
theorem dJ7_utf16hashCode_31 : decode cJ7_utf16hashCode 31 = .ok (.istore_n 0, 1) := dk_59 (dk_at dksJ7_utf16hashCode_1 8 rfl rfl)
theorem dJ7_utf16hashCode_32 : decode cJ7_utf16hashCode 32 = .ok (.iinc 5 1, 3) := dk_132 5 1 (dk_at dksJ7_utf16hashCode_1 9 rfl rfl)
theorem dJ7_utf16hashCode_35 : decode cJ7_utf16hashCode 35 = .ok (.goto (-27), 3) := dk_167 255 229 (dk_at dksJ7_utf16hashCode_1 12 rfl rfl)
theorem dJ7_utf16hashCode_38 : decode cJ7_utf16hashCode 38 = .ok (.iload_n 0, 1) := dk_26 (dk_at dksJ7_utf16hashCode_1 15 rfl rfl)
theorem dJ7_utf16hashCode_39 : decode cJ7_utf16hashCode 39 = .ok (.ireturn, 1) := dk_172 (dk_at dksJ7_utf16hashCode_1 16 rfl rfl)
abbrev cJ7_hashCode : ByteArray := prog_37_method_7_code
def yJ7_hashCode : MethodName := ⟨RJ7, "hashCode", "(I[CII)I"⟩
def dkwJ7_hashCode_1 : List UInt8 := [59, 132, 5, 1, 167, 255, 236, 26, 172]
abbrev dktJ7_hashCode_1 : List UInt8 := dkwJ7_hashCode_1 ++ []
def dkwJ7_hashCode_0 : List UInt8 := [28, 29, 96, 54, 4, 28, 54, 5, 21, 5, 21, 4, 162, 0, 19, 16, 31, 26, 104, 43, 21, 5, 52, 96]
abbrev dktJ7_hashCode_0 : List UInt8 := dkwJ7_hashCode_0 ++ dktJ7_hashCode_1
theorem dksJ7_hashCode_0 : cJ7_hashCode.data.toList.drop 0 = dktJ7_hashCode_0 := by decide +kernel
theorem dksJ7_hashCode_1 : cJ7_hashCode.data.toList.drop 24 = dktJ7_hashCode_1 := dk_seg dksJ7_hashCode_0 24 rfl rfl
theorem dJ7_hashCode_0 : decode cJ7_hashCode 0 = .ok (.iload_n 2, 1) := dk_28 (dk_at dksJ7_hashCode_0 0 rfl rfl)
theorem dJ7_hashCode_1 : decode cJ7_hashCode 1 = .ok (.iload_n 3, 1) := dk_29 (dk_at dksJ7_hashCode_0 1 rfl rfl)
theorem dJ7_hashCode_2 : decode cJ7_hashCode 2 = .ok (.iadd, 1) := dk_96 (dk_at dksJ7_hashCode_0 2 rfl rfl)
theorem dJ7_hashCode_3 : decode cJ7_hashCode 3 = .ok (.istore 4, 2) := dk_54 4 (dk_at dksJ7_hashCode_0 3 rfl rfl)
theorem dJ7_hashCode_5 : decode cJ7_hashCode 5 = .ok (.iload_n 2, 1) := dk_28 (dk_at dksJ7_hashCode_0 5 rfl rfl)
theorem dJ7_hashCode_6 : decode cJ7_hashCode 6 = .ok (.istore 5, 2) := dk_54 5 (dk_at dksJ7_hashCode_0 6 rfl rfl)
theorem dJ7_hashCode_8 : decode cJ7_hashCode 8 = .ok (.iload 5, 2) := dk_21 5 (dk_at dksJ7_hashCode_0 8 rfl rfl)
theorem dJ7_hashCode_10 : decode cJ7_hashCode 10 = .ok (.iload 4, 2) := dk_21 4 (dk_at dksJ7_hashCode_0 10 rfl rfl)
theorem dJ7_hashCode_12 : decode cJ7_hashCode 12 = .ok (.if_icmp .ge 19, 3) := dk_162 0 19 (dk_at dksJ7_hashCode_0 12 rfl rfl)
theorem dJ7_hashCode_15 : decode cJ7_hashCode 15 = .ok (.bipush 31, 2) := dk_16 31 (dk_at dksJ7_hashCode_0 15 rfl rfl)
theorem dJ7_hashCode_17 : decode cJ7_hashCode 17 = .ok (.iload_n 0, 1) := dk_26 (dk_at dksJ7_hashCode_0 17 rfl rfl)
theorem dJ7_hashCode_18 : decode cJ7_hashCode 18 = .ok (.imul, 1) := dk_104 (dk_at dksJ7_hashCode_0 18 rfl rfl)
theorem dJ7_hashCode_19 : decode cJ7_hashCode 19 = .ok (.aload_n 1, 1) := dk_43 (dk_at dksJ7_hashCode_0 19 rfl rfl)
theorem dJ7_hashCode_20 : decode cJ7_hashCode 20 = .ok (.iload 5, 2) := dk_21 5 (dk_at dksJ7_hashCode_0 20 rfl rfl)
theorem dJ7_hashCode_22 : decode cJ7_hashCode 22 = .ok (.caload, 1) := dk_52 (dk_at dksJ7_hashCode_0 22 rfl rfl)
theorem dJ7_hashCode_23 : decode cJ7_hashCode 23 = .ok (.iadd, 1) := dk_96 (dk_at dksJ7_hashCode_0 23 rfl rfl)
theorem dJ7_hashCode_24 : decode cJ7_hashCode 24 = .ok (.istore_n 0, 1) := dk_59 (dk_at dksJ7_hashCode_1 0 rfl rfl)
theorem dJ7_hashCode_25 : decode cJ7_hashCode 25 = .ok (.iinc 5 1, 3) := dk_132 5 1 (dk_at dksJ7_hashCode_1 1 rfl rfl)
theorem dJ7_hashCode_28 : decode cJ7_hashCode 28 = .ok (.goto (-20), 3) := dk_167 255 236 (dk_at dksJ7_hashCode_1 4 rfl rfl)
theorem dJ7_hashCode_31 : decode cJ7_hashCode 31 = .ok (.iload_n 0, 1) := dk_26 (dk_at dksJ7_hashCode_1 7 rfl rfl)
theorem dJ7_hashCode_32 : decode cJ7_hashCode 32 = .ok (.ireturn, 1) := dk_172 (dk_at dksJ7_hashCode_1 8 rfl rfl)
abbrev cJ7_hashCode_2 : ByteArray := prog_37_method_6_code
def yJ7_hashCode_2 : MethodName := ⟨RJ7, "hashCode", "(I[BII)I"⟩
def dkwJ7_hashCode_2_1 : List UInt8 := [59, 132, 5, 1, 167, 255, 236, 26, 172]
abbrev dktJ7_hashCode_2_1 : List UInt8 := dkwJ7_hashCode_2_1 ++ []
def dkwJ7_hashCode_2_0 : List UInt8 := [28, 29, 96, 54, 4, 28, 54, 5, 21, 5, 21, 4, 162, 0, 19, 16, 31, 26, 104, 43, 21, 5, 51, 96]
abbrev dktJ7_hashCode_2_0 : List UInt8 := dkwJ7_hashCode_2_0 ++ dktJ7_hashCode_2_1
theorem dksJ7_hashCode_2_0 : cJ7_hashCode_2.data.toList.drop 0 = dktJ7_hashCode_2_0 := by decide +kernel
theorem dksJ7_hashCode_2_1 : cJ7_hashCode_2.data.toList.drop 24 = dktJ7_hashCode_2_1 := dk_seg dksJ7_hashCode_2_0 24 rfl rfl
theorem dJ7_hashCode_2_0 : decode cJ7_hashCode_2 0 = .ok (.iload_n 2, 1) := dk_28 (dk_at dksJ7_hashCode_2_0 0 rfl rfl)
theorem dJ7_hashCode_2_1 : decode cJ7_hashCode_2 1 = .ok (.iload_n 3, 1) := dk_29 (dk_at dksJ7_hashCode_2_0 1 rfl rfl)
theorem dJ7_hashCode_2_2 : decode cJ7_hashCode_2 2 = .ok (.iadd, 1) := dk_96 (dk_at dksJ7_hashCode_2_0 2 rfl rfl)
theorem dJ7_hashCode_2_3 : decode cJ7_hashCode_2 3 = .ok (.istore 4, 2) := dk_54 4 (dk_at dksJ7_hashCode_2_0 3 rfl rfl)
theorem dJ7_hashCode_2_5 : decode cJ7_hashCode_2 5 = .ok (.iload_n 2, 1) := dk_28 (dk_at dksJ7_hashCode_2_0 5 rfl rfl)
theorem dJ7_hashCode_2_6 : decode cJ7_hashCode_2 6 = .ok (.istore 5, 2) := dk_54 5 (dk_at dksJ7_hashCode_2_0 6 rfl rfl)
theorem dJ7_hashCode_2_8 : decode cJ7_hashCode_2 8 = .ok (.iload 5, 2) := dk_21 5 (dk_at dksJ7_hashCode_2_0 8 rfl rfl)
theorem dJ7_hashCode_2_10 : decode cJ7_hashCode_2 10 = .ok (.iload 4, 2) := dk_21 4 (dk_at dksJ7_hashCode_2_0 10 rfl rfl)
theorem dJ7_hashCode_2_12 : decode cJ7_hashCode_2 12 = .ok (.if_icmp .ge 19, 3) := dk_162 0 19 (dk_at dksJ7_hashCode_2_0 12 rfl rfl)
theorem dJ7_hashCode_2_15 : decode cJ7_hashCode_2 15 = .ok (.bipush 31, 2) := dk_16 31 (dk_at dksJ7_hashCode_2_0 15 rfl rfl)
theorem dJ7_hashCode_2_17 : decode cJ7_hashCode_2 17 = .ok (.iload_n 0, 1) := dk_26 (dk_at dksJ7_hashCode_2_0 17 rfl rfl)
theorem dJ7_hashCode_2_18 : decode cJ7_hashCode_2 18 = .ok (.imul, 1) := dk_104 (dk_at dksJ7_hashCode_2_0 18 rfl rfl)
theorem dJ7_hashCode_2_19 : decode cJ7_hashCode_2 19 = .ok (.aload_n 1, 1) := dk_43 (dk_at dksJ7_hashCode_2_0 19 rfl rfl)
theorem dJ7_hashCode_2_20 : decode cJ7_hashCode_2 20 = .ok (.iload 5, 2) := dk_21 5 (dk_at dksJ7_hashCode_2_0 20 rfl rfl)
theorem dJ7_hashCode_2_22 : decode cJ7_hashCode_2 22 = .ok (.baload, 1) := dk_51 (dk_at dksJ7_hashCode_2_0 22 rfl rfl)
theorem dJ7_hashCode_2_23 : decode cJ7_hashCode_2 23 = .ok (.iadd, 1) := dk_96 (dk_at dksJ7_hashCode_2_0 23 rfl rfl)
theorem dJ7_hashCode_2_24 : decode cJ7_hashCode_2 24 = .ok (.istore_n 0, 1) := dk_59 (dk_at dksJ7_hashCode_2_1 0 rfl rfl)
theorem dJ7_hashCode_2_25 : decode cJ7_hashCode_2 25 = .ok (.iinc 5 1, 3) := dk_132 5 1 (dk_at dksJ7_hashCode_2_1 1 rfl rfl)
theorem dJ7_hashCode_2_28 : decode cJ7_hashCode_2 28 = .ok (.goto (-20), 3) := dk_167 255 236 (dk_at dksJ7_hashCode_2_1 4 rfl rfl)
theorem dJ7_hashCode_2_31 : decode cJ7_hashCode_2 31 = .ok (.iload_n 0, 1) := dk_26 (dk_at dksJ7_hashCode_2_1 7 rfl rfl)
theorem dJ7_hashCode_2_32 : decode cJ7_hashCode_2 32 = .ok (.ireturn, 1) := dk_172 (dk_at dksJ7_hashCode_2_1 8 rfl rfl)
abbrev cJ7_hashCode_3 : ByteArray := prog_37_method_8_code
def yJ7_hashCode_3 : MethodName := ⟨RJ7, "hashCode", "(I[SII)I"⟩
def dkwJ7_hashCode_3_1 : List UInt8 := [59, 132, 5, 1, 167, 255, 236, 26, 172]
abbrev dktJ7_hashCode_3_1 : List UInt8 := dkwJ7_hashCode_3_1 ++ []
def dkwJ7_hashCode_3_0 : List UInt8 := [28, 29, 96, 54, 4, 28, 54, 5, 21, 5, 21, 4, 162, 0, 19, 16, 31, 26, 104, 43, 21, 5, 53, 96]
abbrev dktJ7_hashCode_3_0 : List UInt8 := dkwJ7_hashCode_3_0 ++ dktJ7_hashCode_3_1
theorem dksJ7_hashCode_3_0 : cJ7_hashCode_3.data.toList.drop 0 = dktJ7_hashCode_3_0 := by decide +kernel
theorem dksJ7_hashCode_3_1 : cJ7_hashCode_3.data.toList.drop 24 = dktJ7_hashCode_3_1 := dk_seg dksJ7_hashCode_3_0 24 rfl rfl
theorem dJ7_hashCode_3_0 : decode cJ7_hashCode_3 0 = .ok (.iload_n 2, 1) := dk_28 (dk_at dksJ7_hashCode_3_0 0 rfl rfl)
theorem dJ7_hashCode_3_1 : decode cJ7_hashCode_3 1 = .ok (.iload_n 3, 1) := dk_29 (dk_at dksJ7_hashCode_3_0 1 rfl rfl)
theorem dJ7_hashCode_3_2 : decode cJ7_hashCode_3 2 = .ok (.iadd, 1) := dk_96 (dk_at dksJ7_hashCode_3_0 2 rfl rfl)
theorem dJ7_hashCode_3_3 : decode cJ7_hashCode_3 3 = .ok (.istore 4, 2) := dk_54 4 (dk_at dksJ7_hashCode_3_0 3 rfl rfl)
theorem dJ7_hashCode_3_5 : decode cJ7_hashCode_3 5 = .ok (.iload_n 2, 1) := dk_28 (dk_at dksJ7_hashCode_3_0 5 rfl rfl)
theorem dJ7_hashCode_3_6 : decode cJ7_hashCode_3 6 = .ok (.istore 5, 2) := dk_54 5 (dk_at dksJ7_hashCode_3_0 6 rfl rfl)
theorem dJ7_hashCode_3_8 : decode cJ7_hashCode_3 8 = .ok (.iload 5, 2) := dk_21 5 (dk_at dksJ7_hashCode_3_0 8 rfl rfl)
theorem dJ7_hashCode_3_10 : decode cJ7_hashCode_3 10 = .ok (.iload 4, 2) := dk_21 4 (dk_at dksJ7_hashCode_3_0 10 rfl rfl)
theorem dJ7_hashCode_3_12 : decode cJ7_hashCode_3 12 = .ok (.if_icmp .ge 19, 3) := dk_162 0 19 (dk_at dksJ7_hashCode_3_0 12 rfl rfl)
theorem dJ7_hashCode_3_15 : decode cJ7_hashCode_3 15 = .ok (.bipush 31, 2) := dk_16 31 (dk_at dksJ7_hashCode_3_0 15 rfl rfl)
theorem dJ7_hashCode_3_17 : decode cJ7_hashCode_3 17 = .ok (.iload_n 0, 1) := dk_26 (dk_at dksJ7_hashCode_3_0 17 rfl rfl)
theorem dJ7_hashCode_3_18 : decode cJ7_hashCode_3 18 = .ok (.imul, 1) := dk_104 (dk_at dksJ7_hashCode_3_0 18 rfl rfl)
theorem dJ7_hashCode_3_19 : decode cJ7_hashCode_3 19 = .ok (.aload_n 1, 1) := dk_43 (dk_at dksJ7_hashCode_3_0 19 rfl rfl)
theorem dJ7_hashCode_3_20 : decode cJ7_hashCode_3 20 = .ok (.iload 5, 2) := dk_21 5 (dk_at dksJ7_hashCode_3_0 20 rfl rfl)
theorem dJ7_hashCode_3_22 : decode cJ7_hashCode_3 22 = .ok (.saload, 1) := dk_53 (dk_at dksJ7_hashCode_3_0 22 rfl rfl)
theorem dJ7_hashCode_3_23 : decode cJ7_hashCode_3 23 = .ok (.iadd, 1) := dk_96 (dk_at dksJ7_hashCode_3_0 23 rfl rfl)
theorem dJ7_hashCode_3_24 : decode cJ7_hashCode_3 24 = .ok (.istore_n 0, 1) := dk_59 (dk_at dksJ7_hashCode_3_1 0 rfl rfl)
theorem dJ7_hashCode_3_25 : decode cJ7_hashCode_3 25 = .ok (.iinc 5 1, 3) := dk_132 5 1 (dk_at dksJ7_hashCode_3_1 1 rfl rfl)
theorem dJ7_hashCode_3_28 : decode cJ7_hashCode_3 28 = .ok (.goto (-20), 3) := dk_167 255 236 (dk_at dksJ7_hashCode_3_1 4 rfl rfl)
theorem dJ7_hashCode_3_31 : decode cJ7_hashCode_3 31 = .ok (.iload_n 0, 1) := dk_26 (dk_at dksJ7_hashCode_3_1 7 rfl rfl)
theorem dJ7_hashCode_3_32 : decode cJ7_hashCode_3 32 = .ok (.ireturn, 1) := dk_172 (dk_at dksJ7_hashCode_3_1 8 rfl rfl)
abbrev cJ7_hashCode_4 : ByteArray := prog_37_method_9_code
def yJ7_hashCode_4 : MethodName := ⟨RJ7, "hashCode", "(I[III)I"⟩
def dkwJ7_hashCode_4_1 : List UInt8 := [59, 132, 5, 1, 167, 255, 236, 26, 172]
abbrev dktJ7_hashCode_4_1 : List UInt8 := dkwJ7_hashCode_4_1 ++ []
def dkwJ7_hashCode_4_0 : List UInt8 := [28, 29, 96, 54, 4, 28, 54, 5, 21, 5, 21, 4, 162, 0, 19, 16, 31, 26, 104, 43, 21, 5, 46, 96]
abbrev dktJ7_hashCode_4_0 : List UInt8 := dkwJ7_hashCode_4_0 ++ dktJ7_hashCode_4_1
theorem dksJ7_hashCode_4_0 : cJ7_hashCode_4.data.toList.drop 0 = dktJ7_hashCode_4_0 := by decide +kernel
theorem dksJ7_hashCode_4_1 : cJ7_hashCode_4.data.toList.drop 24 = dktJ7_hashCode_4_1 := dk_seg dksJ7_hashCode_4_0 24 rfl rfl
theorem dJ7_hashCode_4_0 : decode cJ7_hashCode_4 0 = .ok (.iload_n 2, 1) := dk_28 (dk_at dksJ7_hashCode_4_0 0 rfl rfl)
theorem dJ7_hashCode_4_1 : decode cJ7_hashCode_4 1 = .ok (.iload_n 3, 1) := dk_29 (dk_at dksJ7_hashCode_4_0 1 rfl rfl)
theorem dJ7_hashCode_4_2 : decode cJ7_hashCode_4 2 = .ok (.iadd, 1) := dk_96 (dk_at dksJ7_hashCode_4_0 2 rfl rfl)
theorem dJ7_hashCode_4_3 : decode cJ7_hashCode_4 3 = .ok (.istore 4, 2) := dk_54 4 (dk_at dksJ7_hashCode_4_0 3 rfl rfl)
theorem dJ7_hashCode_4_5 : decode cJ7_hashCode_4 5 = .ok (.iload_n 2, 1) := dk_28 (dk_at dksJ7_hashCode_4_0 5 rfl rfl)
theorem dJ7_hashCode_4_6 : decode cJ7_hashCode_4 6 = .ok (.istore 5, 2) := dk_54 5 (dk_at dksJ7_hashCode_4_0 6 rfl rfl)
theorem dJ7_hashCode_4_8 : decode cJ7_hashCode_4 8 = .ok (.iload 5, 2) := dk_21 5 (dk_at dksJ7_hashCode_4_0 8 rfl rfl)
theorem dJ7_hashCode_4_10 : decode cJ7_hashCode_4 10 = .ok (.iload 4, 2) := dk_21 4 (dk_at dksJ7_hashCode_4_0 10 rfl rfl)
theorem dJ7_hashCode_4_12 : decode cJ7_hashCode_4 12 = .ok (.if_icmp .ge 19, 3) := dk_162 0 19 (dk_at dksJ7_hashCode_4_0 12 rfl rfl)
theorem dJ7_hashCode_4_15 : decode cJ7_hashCode_4 15 = .ok (.bipush 31, 2) := dk_16 31 (dk_at dksJ7_hashCode_4_0 15 rfl rfl)
theorem dJ7_hashCode_4_17 : decode cJ7_hashCode_4 17 = .ok (.iload_n 0, 1) := dk_26 (dk_at dksJ7_hashCode_4_0 17 rfl rfl)
theorem dJ7_hashCode_4_18 : decode cJ7_hashCode_4 18 = .ok (.imul, 1) := dk_104 (dk_at dksJ7_hashCode_4_0 18 rfl rfl)
theorem dJ7_hashCode_4_19 : decode cJ7_hashCode_4 19 = .ok (.aload_n 1, 1) := dk_43 (dk_at dksJ7_hashCode_4_0 19 rfl rfl)
theorem dJ7_hashCode_4_20 : decode cJ7_hashCode_4 20 = .ok (.iload 5, 2) := dk_21 5 (dk_at dksJ7_hashCode_4_0 20 rfl rfl)
theorem dJ7_hashCode_4_22 : decode cJ7_hashCode_4 22 = .ok (.iaload, 1) := dk_46 (dk_at dksJ7_hashCode_4_0 22 rfl rfl)
theorem dJ7_hashCode_4_23 : decode cJ7_hashCode_4 23 = .ok (.iadd, 1) := dk_96 (dk_at dksJ7_hashCode_4_0 23 rfl rfl)
theorem dJ7_hashCode_4_24 : decode cJ7_hashCode_4 24 = .ok (.istore_n 0, 1) := dk_59 (dk_at dksJ7_hashCode_4_1 0 rfl rfl)
theorem dJ7_hashCode_4_25 : decode cJ7_hashCode_4 25 = .ok (.iinc 5 1, 3) := dk_132 5 1 (dk_at dksJ7_hashCode_4_1 1 rfl rfl)
theorem dJ7_hashCode_4_28 : decode cJ7_hashCode_4 28 = .ok (.goto (-20), 3) := dk_167 255 236 (dk_at dksJ7_hashCode_4_1 4 rfl rfl)
theorem dJ7_hashCode_4_31 : decode cJ7_hashCode_4 31 = .ok (.iload_n 0, 1) := dk_26 (dk_at dksJ7_hashCode_4_1 7 rfl rfl)
theorem dJ7_hashCode_4_32 : decode cJ7_hashCode_4 32 = .ok (.ireturn, 1) := dk_172 (dk_at dksJ7_hashCode_4_1 8 rfl rfl)
theorem q130 : (Jvm.Cond.initialized "jdk/internal/util/ArraysSupport") ∈ lw_all := lw_g (lw_at lw_m1 20 rfl) rfl
theorem q687 : (Jvm.Cond.static ({ cls := "jdk/internal/util/ArraysSupport", name := "vectorizedHashCode", desc := "(Ljava/lang/Object;IIII)I" } : Jvm.MethodName)) ∈ lw_all := lw_g (lw_at lw_m3 97 rfl) rfl
theorem q688 : (Jvm.Cond.code ({ cls := "jdk/internal/util/ArraysSupport", name := "vectorizedHashCode", desc := "(Ljava/lang/Object;IIII)I" } : Jvm.MethodName) prog_37_method_4_code (5 : Nat) (Option.some Jvm.ClassFile.FieldType.int)) ∈ lw_all := lw_g (lw_at lw_m3 98 rfl) rfl
theorem q689 : (Jvm.Cond.classLink "jdk/internal/util/ArraysSupport" (60 : Nat) "[B") ∈ lw_all := lw_g (lw_at lw_m3 99 rfl) rfl
theorem q690 : (Jvm.Cond.methodLink "jdk/internal/util/ArraysSupport" (62 : Nat) ({ cls := "jdk/internal/util/ArraysSupport", name := "signedHashCode", desc := "(I[BII)I" } : Jvm.MethodName)) ∈ lw_all := lw_g (lw_at lw_m3 100 rfl) rfl
theorem q691 : (Jvm.Cond.static ({ cls := "jdk/internal/util/ArraysSupport", name := "signedHashCode", desc := "(I[BII)I" } : Jvm.MethodName)) ∈ lw_all := lw_g (lw_at lw_m3 101 rfl) rfl
theorem q692 : (Jvm.Cond.code ({ cls := "jdk/internal/util/ArraysSupport", name := "signedHashCode", desc := "(I[BII)I" } : Jvm.MethodName) prog_37_method_5_code (6 : Nat) (Option.some Jvm.ClassFile.FieldType.int)) ∈ lw_all := lw_g (lw_at lw_m3 102 rfl) rfl
theorem q693 : (Jvm.Cond.methodLink "jdk/internal/util/ArraysSupport" (66 : Nat) ({ cls := "jdk/internal/util/ArraysSupport", name := "utf16hashCode", desc := "(I[BII)I" } : Jvm.MethodName)) ∈ lw_all := lw_g (lw_at lw_m3 103 rfl) rfl
theorem q694 : (Jvm.Cond.static ({ cls := "jdk/internal/util/ArraysSupport", name := "utf16hashCode", desc := "(I[BII)I" } : Jvm.MethodName)) ∈ lw_all := lw_g (lw_at lw_m3 104 rfl) rfl
theorem q695 : (Jvm.Cond.code ({ cls := "jdk/internal/util/ArraysSupport", name := "utf16hashCode", desc := "(I[BII)I" } : Jvm.MethodName) prog_37_method_10_code (6 : Nat) (Option.some Jvm.ClassFile.FieldType.int)) ∈ lw_all := lw_g (lw_at lw_m3 105 rfl) rfl
theorem q696 : (Jvm.Cond.fieldLink "jdk/internal/util/ArraysSupport" (106 : Nat) "jdk/internal/util/ArraysSupport" "JLA" "Ljdk/internal/access/JavaLangAccess;") ∈ lw_all := lw_g (lw_at lw_m3 106 rfl) rfl
theorem q697 : (Jvm.Cond.laysStatic "jdk/internal/util/ArraysSupport" "JLA" "Ljdk/internal/access/JavaLangAccess;") ∈ lw_tbl := lw_at lw_m3 107 rfl
theorem q698 : (Jvm.Cond.interfaceEntry "jdk/internal/util/ArraysSupport" (110 : Nat)) ∈ lw_tbl := lw_at lw_m3 108 rfl
theorem q699 : (Jvm.Cond.methodLink "jdk/internal/util/ArraysSupport" (110 : Nat) ({ cls := "jdk/internal/access/JavaLangAccess", name := "getUTF16Char", desc := "([BI)C" } : Jvm.MethodName)) ∈ lw_all := lw_g (lw_at lw_m3 109 rfl) rfl
theorem q709 : (Jvm.Cond.classLink "jdk/internal/util/ArraysSupport" (69 : Nat) "[C") ∈ lw_all := lw_g (lw_at lw_m3 119 rfl) rfl
theorem q710 : (Jvm.Cond.methodLink "jdk/internal/util/ArraysSupport" (71 : Nat) ({ cls := "jdk/internal/util/ArraysSupport", name := "hashCode", desc := "(I[CII)I" } : Jvm.MethodName)) ∈ lw_all := lw_g (lw_at lw_m3 120 rfl) rfl
theorem q711 : (Jvm.Cond.static ({ cls := "jdk/internal/util/ArraysSupport", name := "hashCode", desc := "(I[CII)I" } : Jvm.MethodName)) ∈ lw_all := lw_g (lw_at lw_m3 121 rfl) rfl
theorem q712 : (Jvm.Cond.code ({ cls := "jdk/internal/util/ArraysSupport", name := "hashCode", desc := "(I[CII)I" } : Jvm.MethodName) prog_37_method_7_code (6 : Nat) (Option.some Jvm.ClassFile.FieldType.int)) ∈ lw_all := lw_g (lw_at lw_m3 122 rfl) rfl
theorem q713 : (Jvm.Cond.methodLink "jdk/internal/util/ArraysSupport" (75 : Nat) ({ cls := "jdk/internal/util/ArraysSupport", name := "hashCode", desc := "(I[BII)I" } : Jvm.MethodName)) ∈ lw_all := lw_g (lw_at lw_m3 123 rfl) rfl
theorem q714 : (Jvm.Cond.static ({ cls := "jdk/internal/util/ArraysSupport", name := "hashCode", desc := "(I[BII)I" } : Jvm.MethodName)) ∈ lw_all := lw_g (lw_at lw_m3 124 rfl) rfl
theorem q715 : (Jvm.Cond.code ({ cls := "jdk/internal/util/ArraysSupport", name := "hashCode", desc := "(I[BII)I" } : Jvm.MethodName) prog_37_method_6_code (6 : Nat) (Option.some Jvm.ClassFile.FieldType.int)) ∈ lw_all := lw_g (lw_at lw_m3 125 rfl) rfl
theorem q716 : (Jvm.Cond.classLink "jdk/internal/util/ArraysSupport" (77 : Nat) "[S") ∈ lw_all := lw_g (lw_at lw_m3 126 rfl) rfl
theorem q717 : (Jvm.Cond.methodLink "jdk/internal/util/ArraysSupport" (79 : Nat) ({ cls := "jdk/internal/util/ArraysSupport", name := "hashCode", desc := "(I[SII)I" } : Jvm.MethodName)) ∈ lw_all := lw_g (lw_at lw_m3 127 rfl) rfl
theorem q718 : (Jvm.Cond.static ({ cls := "jdk/internal/util/ArraysSupport", name := "hashCode", desc := "(I[SII)I" } : Jvm.MethodName)) ∈ lw_all := lw_g (lw_at lw_m3 128 rfl) rfl
theorem q719 : (Jvm.Cond.code ({ cls := "jdk/internal/util/ArraysSupport", name := "hashCode", desc := "(I[SII)I" } : Jvm.MethodName) prog_37_method_8_code (6 : Nat) (Option.some Jvm.ClassFile.FieldType.int)) ∈ lw_all := lw_g (lw_at lw_m3 129 rfl) rfl
theorem q720 : (Jvm.Cond.classLink "jdk/internal/util/ArraysSupport" (82 : Nat) "[I") ∈ lw_all := lw_g (lw_at lw_m3 130 rfl) rfl
theorem q721 : (Jvm.Cond.methodLink "jdk/internal/util/ArraysSupport" (84 : Nat) ({ cls := "jdk/internal/util/ArraysSupport", name := "hashCode", desc := "(I[III)I" } : Jvm.MethodName)) ∈ lw_all := lw_g (lw_at lw_m3 131 rfl) rfl
theorem q722 : (Jvm.Cond.static ({ cls := "jdk/internal/util/ArraysSupport", name := "hashCode", desc := "(I[III)I" } : Jvm.MethodName)) ∈ lw_all := lw_g (lw_at lw_m3 132 rfl) rfl
theorem q723 : (Jvm.Cond.code ({ cls := "jdk/internal/util/ArraysSupport", name := "hashCode", desc := "(I[III)I" } : Jvm.MethodName) prog_37_method_9_code (6 : Nat) (Option.some Jvm.ClassFile.FieldType.int)) ∈ lw_all := lw_g (lw_at lw_m3 133 rfl) rfl
/-! WrongRoom$Named -/
set_option maxRecDepth 100000
def RX13 : String := "WrongRoom$Named"
abbrev cX13_init : ByteArray := prog_7_method_1_code
def yX13_init : MethodName := ⟨RX13, "<init>", "(Ljava/lang/String;I)V"⟩
def dkwX13_init_0 : List UInt8 := [42, 183, 0, 1, 42, 43, 181, 0, 7, 42, 28, 181, 0, 13, 177]
abbrev dktX13_init_0 : List UInt8 := dkwX13_init_0 ++ []
theorem dksX13_init_0 : cX13_init.data.toList.drop 0 = dktX13_init_0 := by decide +kernel
theorem dX13_init_0 : decode cX13_init 0 = .ok (.aload_n 0, 1) := dk_42 (dk_at dksX13_init_0 0 rfl rfl)
theorem dX13_init_1 : decode cX13_init 1 = .ok (.invokespecial 1, 3) := dk_183 0 1 (dk_at dksX13_init_0 1 rfl rfl)
theorem dX13_init_4 : decode cX13_init 4 = .ok (.aload_n 0, 1) := dk_42 (dk_at dksX13_init_0 4 rfl rfl)
theorem dX13_init_5 : decode cX13_init 5 = .ok (.aload_n 1, 1) := dk_43 (dk_at dksX13_init_0 5 rfl rfl)
theorem dX13_init_6 : decode cX13_init 6 = .ok (.putfield 7, 3) := dk_181 0 7 (dk_at dksX13_init_0 6 rfl rfl)
theorem dX13_init_9 : decode cX13_init 9 = .ok (.aload_n 0, 1) := dk_42 (dk_at dksX13_init_0 9 rfl rfl)
theorem dX13_init_10 : decode cX13_init 10 = .ok (.iload_n 2, 1) := dk_28 (dk_at dksX13_init_0 10 rfl rfl)
theorem dX13_init_11 : decode cX13_init 11 = .ok (.putfield 13, 3) := dk_181 0 13 (dk_at dksX13_init_0 11 rfl rfl)
theorem dX13_init_14 : decode cX13_init 14 = .ok (.return_, 1) := dk_177 (dk_at dksX13_init_0 14 rfl rfl)
theorem q131 : (Jvm.Cond.initialized "WrongRoom$Named") ∈ lw_all := lw_g (lw_at lw_m1 21 rfl) rfl
theorem q793 : (Jvm.Cond.instanceMethod ({ cls := "WrongRoom$Named", name := "<init>", desc := "(Ljava/lang/String;I)V" } : Jvm.MethodName)) ∈ lw_all := lw_g (lw_at lw_m3 203 rfl) rfl
theorem q794 : (Jvm.Cond.code ({ cls := "WrongRoom$Named", name := "<init>", desc := "(Ljava/lang/String;I)V" } : Jvm.MethodName) prog_7_method_1_code (3 : Nat) (Option.none : Option Jvm.ClassFile.FieldType)) ∈ lw_all := lw_g (lw_at lw_m3 204 rfl) rfl
theorem q795 : (Jvm.Cond.methodLink "WrongRoom$Named" (1 : Nat) ({ cls := "java/lang/Object", name := "<init>", desc := "()V" } : Jvm.MethodName)) ∈ lw_all := lw_g (lw_at lw_m3 205 rfl) rfl
theorem q814 : (Jvm.Cond.fieldLink "WrongRoom$Named" (7 : Nat) "WrongRoom$Named" "name" "Ljava/lang/String;") ∈ lw_all := lw_g (lw_at lw_m3 224 rfl) rfl
theorem q819 : (Jvm.Cond.fieldLink "WrongRoom$Named" (13 : Nat) "WrongRoom$Named" "number" "I") ∈ lw_all := lw_g (lw_at lw_m3 229 rfl) rfl
theorem q841 : (Jvm.Cond.soleField "WrongRoom$Named" "name") ∈ lw_all := lw_g (lw_at lw_m4 11 rfl) rfl
theorem q843 : (Jvm.Cond.soleField "WrongRoom$Named" "number") ∈ lw_all := lw_g (lw_at lw_m4 13 rfl) rfl
/-! WrongRoom$House -/
set_option maxRecDepth 100000
def RX14 : String := "WrongRoom$House"
def TX14 : u_T := fun k => match k with
  | 0 => ("WrongRoom$Named", "name", "Ljava/lang/String;", true)
  | 1 => ("WrongRoom$Named", "number", "I", true)
  | 2 => ("WrongRoom$House", "smell", "Ljava/lang/String;", false)
  | 3 => ("WrongRoom$House", "rooms", "I", false)
  | 4 => ("WrongRoom$House", "rent", "I", false)
  | 5 => ("WrongRoom$House", "bill", "I", false)
  | 6 => ("WrongRoom$House", "from", "I", false)
  | 7 => ("WrongRoom$House", "to", "I", false)
  | 8 => ("WrongRoom$House", "wrong", "I", false)
  | 9 => ("WrongRoom$House", "hours", "Z", false)
  | _ => ("WrongRoom$House", "lent", "Z", false)
def tyX14 : Nat → FieldType := fun k => match k with
  | 0 => .object "java/lang/String"
  | 1 => .int
  | 2 => .object "java/lang/String"
  | 3 => .int
  | 4 => .int
  | 5 => .int
  | 6 => .int
  | 7 => .int
  | 8 => .int
  | 9 => .boolean
  | _ => .boolean
abbrev wsX140 : List Cond := u_ws RX14 TX14 11
theorem nmX14 : ∀ a, a < 11 → ∀ b, b < 11 → a ≠ b → (TX14 a).2.1 ≠ (TX14 b).2.1 := by decide +kernel
theorem tyX14_ok : ∀ k, k < 11 → parseFieldDescriptor (TX14 k).2.2.1 = some (tyX14 k) := by decide +kernel
abbrev cX14_init : ByteArray := prog_6_method_1_code
def yX14_init : MethodName := ⟨RX14, "<init>", "(Ljava/lang/String;I)V"⟩
def dkwX14_init_0 : List UInt8 := [42, 43, 28, 183, 0, 3, 42, 16, 23, 181, 0, 9, 42, 16, 254, 181, 0, 15, 177]
abbrev dktX14_init_0 : List UInt8 := dkwX14_init_0 ++ []
theorem dksX14_init_0 : cX14_init.data.toList.drop 0 = dktX14_init_0 := by decide +kernel
theorem dX14_init_0 : decode cX14_init 0 = .ok (.aload_n 0, 1) := dk_42 (dk_at dksX14_init_0 0 rfl rfl)
theorem dX14_init_1 : decode cX14_init 1 = .ok (.aload_n 1, 1) := dk_43 (dk_at dksX14_init_0 1 rfl rfl)
theorem dX14_init_2 : decode cX14_init 2 = .ok (.iload_n 2, 1) := dk_28 (dk_at dksX14_init_0 2 rfl rfl)
theorem dX14_init_3 : decode cX14_init 3 = .ok (.invokespecial 3, 3) := dk_183 0 3 (dk_at dksX14_init_0 3 rfl rfl)
theorem dX14_init_6 : decode cX14_init 6 = .ok (.aload_n 0, 1) := dk_42 (dk_at dksX14_init_0 6 rfl rfl)
theorem dX14_init_7 : decode cX14_init 7 = .ok (.bipush 23, 2) := dk_16 23 (dk_at dksX14_init_0 7 rfl rfl)
theorem dX14_init_9 : decode cX14_init 9 = .ok (.putfield 9, 3) := dk_181 0 9 (dk_at dksX14_init_0 9 rfl rfl)
theorem dX14_init_12 : decode cX14_init 12 = .ok (.aload_n 0, 1) := dk_42 (dk_at dksX14_init_0 12 rfl rfl)
theorem dX14_init_13 : decode cX14_init 13 = .ok (.bipush (-2), 2) := dk_16 254 (dk_at dksX14_init_0 13 rfl rfl)
theorem dX14_init_15 : decode cX14_init 15 = .ok (.putfield 15, 3) := dk_181 0 15 (dk_at dksX14_init_0 15 rfl rfl)
theorem dX14_init_18 : decode cX14_init 18 = .ok (.return_, 1) := dk_177 (dk_at dksX14_init_0 18 rfl rfl)
abbrev cX14_isOpen : ByteArray := prog_6_method_2_code
def yX14_isOpen : MethodName := ⟨RX14, "isOpen", "(I)Z"⟩
def dkwX14_isOpen_0 : List UInt8 := [27, 17, 5, 160, 112, 16, 60, 108, 42, 180, 0, 18, 42, 180, 0, 9, 184, 0, 21, 172]
abbrev dktX14_isOpen_0 : List UInt8 := dkwX14_isOpen_0 ++ []
theorem dksX14_isOpen_0 : cX14_isOpen.data.toList.drop 0 = dktX14_isOpen_0 := by decide +kernel
theorem dX14_isOpen_0 : decode cX14_isOpen 0 = .ok (.iload_n 1, 1) := dk_27 (dk_at dksX14_isOpen_0 0 rfl rfl)
theorem dX14_isOpen_1 : decode cX14_isOpen 1 = .ok (.sipush 1440, 3) := dk_17 5 160 (dk_at dksX14_isOpen_0 1 rfl rfl)
theorem dX14_isOpen_4 : decode cX14_isOpen 4 = .ok (.irem, 1) := dk_112 (dk_at dksX14_isOpen_0 4 rfl rfl)
theorem dX14_isOpen_5 : decode cX14_isOpen 5 = .ok (.bipush 60, 2) := dk_16 60 (dk_at dksX14_isOpen_0 5 rfl rfl)
theorem dX14_isOpen_7 : decode cX14_isOpen 7 = .ok (.idiv, 1) := dk_108 (dk_at dksX14_isOpen_0 7 rfl rfl)
theorem dX14_isOpen_8 : decode cX14_isOpen 8 = .ok (.aload_n 0, 1) := dk_42 (dk_at dksX14_isOpen_0 8 rfl rfl)
theorem dX14_isOpen_9 : decode cX14_isOpen 9 = .ok (.getfield 18, 3) := dk_180 0 18 (dk_at dksX14_isOpen_0 9 rfl rfl)
theorem dX14_isOpen_12 : decode cX14_isOpen 12 = .ok (.aload_n 0, 1) := dk_42 (dk_at dksX14_isOpen_0 12 rfl rfl)
theorem dX14_isOpen_13 : decode cX14_isOpen 13 = .ok (.getfield 9, 3) := dk_180 0 9 (dk_at dksX14_isOpen_0 13 rfl rfl)
theorem dX14_isOpen_16 : decode cX14_isOpen 16 = .ok (.invokestatic 21, 3) := dk_184 0 21 (dk_at dksX14_isOpen_0 16 rfl rfl)
theorem dX14_isOpen_19 : decode cX14_isOpen 19 = .ok (.ireturn, 1) := dk_172 (dk_at dksX14_isOpen_0 19 rfl rfl)
theorem q132 : (Jvm.Cond.initialized "WrongRoom$House") ∈ lw_all := lw_g (lw_at lw_m1 22 rfl) rfl
theorem q775 : (Jvm.Cond.instantiable "WrongRoom$House" (11 : Nat)) ∈ lw_all := lw_g (lw_at lw_m3 185 rfl) rfl
theorem q790 : (Jvm.Cond.instanceMethod ({ cls := "WrongRoom$House", name := "<init>", desc := "(Ljava/lang/String;I)V" } : Jvm.MethodName)) ∈ lw_all := lw_g (lw_at lw_m3 200 rfl) rfl
theorem q791 : (Jvm.Cond.code ({ cls := "WrongRoom$House", name := "<init>", desc := "(Ljava/lang/String;I)V" } : Jvm.MethodName) prog_6_method_1_code (3 : Nat) (Option.none : Option Jvm.ClassFile.FieldType)) ∈ lw_all := lw_g (lw_at lw_m3 201 rfl) rfl
theorem q792 : (Jvm.Cond.methodLink "WrongRoom$House" (3 : Nat) ({ cls := "WrongRoom$Named", name := "<init>", desc := "(Ljava/lang/String;I)V" } : Jvm.MethodName)) ∈ lw_all := lw_g (lw_at lw_m3 202 rfl) rfl
theorem q805 : (Jvm.Cond.fieldLink "WrongRoom$House" (18 : Nat) "WrongRoom$House" "from" "I") ∈ lw_all := lw_g (lw_at lw_m3 215 rfl) rfl
theorem q807 : (Jvm.Cond.fieldLink "WrongRoom$House" (9 : Nat) "WrongRoom$House" "to" "I") ∈ lw_all := lw_g (lw_at lw_m3 217 rfl) rfl
theorem q809 : (Jvm.Cond.fieldLink "WrongRoom$House" (15 : Nat) "WrongRoom$House" "wrong" "I") ∈ lw_all := lw_g (lw_at lw_m3 219 rfl) rfl
theorem q816 : (Jvm.Cond.sameField "WrongRoom$House" "WrongRoom$Named" "name" "Ljava/lang/String;") ∈ lw_all := lw_g (lw_at lw_m3 226 rfl) rfl
theorem q821 : (Jvm.Cond.sameField "WrongRoom$House" "WrongRoom$Named" "number" "I") ∈ lw_all := lw_g (lw_at lw_m3 231 rfl) rfl
theorem q822 : (Jvm.Cond.lays "WrongRoom$House" "WrongRoom$House" "smell" "Ljava/lang/String;") ∈ lw_all := lw_g (lw_at lw_m3 232 rfl) rfl
theorem q823 : (Jvm.Cond.soleField "WrongRoom$House" "smell") ∈ lw_all := lw_g (lw_at lw_m3 233 rfl) rfl
theorem q824 : (Jvm.Cond.lays "WrongRoom$House" "WrongRoom$House" "rooms" "I") ∈ lw_all := lw_g (lw_at lw_m3 234 rfl) rfl
theorem q825 : (Jvm.Cond.soleField "WrongRoom$House" "rooms") ∈ lw_all := lw_g (lw_at lw_m3 235 rfl) rfl
theorem q826 : (Jvm.Cond.lays "WrongRoom$House" "WrongRoom$House" "rent" "I") ∈ lw_all := lw_g (lw_at lw_m3 236 rfl) rfl
theorem q827 : (Jvm.Cond.soleField "WrongRoom$House" "rent") ∈ lw_all := lw_g (lw_at lw_m3 237 rfl) rfl
theorem q828 : (Jvm.Cond.lays "WrongRoom$House" "WrongRoom$House" "bill" "I") ∈ lw_all := lw_g (lw_at lw_m3 238 rfl) rfl
theorem q829 : (Jvm.Cond.soleField "WrongRoom$House" "bill") ∈ lw_all := lw_g (lw_at lw_m3 239 rfl) rfl
theorem q830 : (Jvm.Cond.lays "WrongRoom$House" "WrongRoom$House" "from" "I") ∈ lw_all := lw_g (lw_at lw_m4 0 rfl) rfl
theorem q831 : (Jvm.Cond.soleField "WrongRoom$House" "from") ∈ lw_all := lw_g (lw_at lw_m4 1 rfl) rfl
theorem q832 : (Jvm.Cond.lays "WrongRoom$House" "WrongRoom$House" "to" "I") ∈ lw_all := lw_g (lw_at lw_m4 2 rfl) rfl
theorem q833 : (Jvm.Cond.soleField "WrongRoom$House" "to") ∈ lw_all := lw_g (lw_at lw_m4 3 rfl) rfl
theorem q834 : (Jvm.Cond.lays "WrongRoom$House" "WrongRoom$House" "wrong" "I") ∈ lw_all := lw_g (lw_at lw_m4 4 rfl) rfl
theorem q835 : (Jvm.Cond.soleField "WrongRoom$House" "wrong") ∈ lw_all := lw_g (lw_at lw_m4 5 rfl) rfl
theorem q836 : (Jvm.Cond.lays "WrongRoom$House" "WrongRoom$House" "hours" "Z") ∈ lw_all := lw_g (lw_at lw_m4 6 rfl) rfl
theorem q837 : (Jvm.Cond.soleField "WrongRoom$House" "hours") ∈ lw_all := lw_g (lw_at lw_m4 7 rfl) rfl
theorem q838 : (Jvm.Cond.lays "WrongRoom$House" "WrongRoom$House" "lent" "Z") ∈ lw_all := lw_g (lw_at lw_m4 8 rfl) rfl
theorem q839 : (Jvm.Cond.soleField "WrongRoom$House" "lent") ∈ lw_all := lw_g (lw_at lw_m4 9 rfl) rfl
theorem q840 : (Jvm.Cond.laysFinal "WrongRoom$House" "WrongRoom$Named" "name" "Ljava/lang/String;") ∈ lw_all := lw_g (lw_at lw_m4 10 rfl) rfl
theorem q842 : (Jvm.Cond.laysFinal "WrongRoom$House" "WrongRoom$Named" "number" "I") ∈ lw_all := lw_g (lw_at lw_m4 12 rfl) rfl
theorem q844 : (Jvm.Cond.superclass "WrongRoom$House" "WrongRoom$Named") ∈ lw_all := lw_g (lw_at lw_m4 14 rfl) rfl
theorem q990 : (Jvm.Cond.instanceMethod ({ cls := "WrongRoom$House", name := "isOpen", desc := "(I)Z" } : Jvm.MethodName)) ∈ lw_all := lw_g (lw_at lw_m4 160 rfl) rfl
theorem q991 : (Jvm.Cond.selects "WrongRoom$House" ({ cls := "WrongRoom$House", name := "isOpen", desc := "(I)Z" } : Jvm.MethodName) ({ cls := "WrongRoom$House", name := "isOpen", desc := "(I)Z" } : Jvm.MethodName)) ∈ lw_all := lw_g (lw_at lw_m4 161 rfl) rfl
theorem q992 : (Jvm.Cond.code ({ cls := "WrongRoom$House", name := "isOpen", desc := "(I)Z" } : Jvm.MethodName) prog_6_method_2_code (2 : Nat) (Option.some Jvm.ClassFile.FieldType.boolean)) ∈ lw_all := lw_g (lw_at lw_m4 162 rfl) rfl
theorem q993 : (Jvm.Cond.methodLinkNest "WrongRoom$House" (21 : Nat) ({ cls := "WrongRoom", name := "in", desc := "(III)Z" } : Jvm.MethodName) "WrongRoom") ∈ lw_tbl := lw_at lw_m4 163 rfl
theorem q2181 : (Jvm.Cond.castable "WrongRoom$House" "java/lang/Object") ∈ lw_tbl := lw_at lw_m9 151 rfl
theorem in_X14 : ∀ w ∈ wsX140, w ∈ lw_all := lw_in wsX140 [840, 842, 822, 824, 826, 828, 830, 832, 834, 836, 838] (by decide +kernel) (by decide +kernel)
/-! WrongRoom$Person -/
set_option maxRecDepth 100000
def RX15 : String := "WrongRoom$Person"
def TX15 : u_T := fun k => match k with
  | 0 => ("WrongRoom$Named", "name", "Ljava/lang/String;", true)
  | 1 => ("WrongRoom$Named", "number", "I", true)
  | 2 => ("WrongRoom$Person", "home", "I", false)
  | _ => ("WrongRoom$Person", "at", "I", false)
def tyX15 : Nat → FieldType := fun k => match k with
  | 0 => .object "java/lang/String"
  | 1 => .int
  | 2 => .int
  | _ => .int
abbrev wsX150 : List Cond := u_ws RX15 TX15 4
theorem nmX15 : ∀ a, a < 4 → ∀ b, b < 4 → a ≠ b → (TX15 a).2.1 ≠ (TX15 b).2.1 := by decide +kernel
theorem tyX15_ok : ∀ k, k < 4 → parseFieldDescriptor (TX15 k).2.2.1 = some (tyX15 k) := by decide +kernel
abbrev cX15_init : ByteArray := prog_10_method_1_code
def yX15_init : MethodName := ⟨RX15, "<init>", "(Ljava/lang/String;I)V"⟩
def dkwX15_init_0 : List UInt8 := [42, 43, 28, 183, 0, 1, 177]
abbrev dktX15_init_0 : List UInt8 := dkwX15_init_0 ++ []
theorem dksX15_init_0 : cX15_init.data.toList.drop 0 = dktX15_init_0 := by decide +kernel
theorem dX15_init_0 : decode cX15_init 0 = .ok (.aload_n 0, 1) := dk_42 (dk_at dksX15_init_0 0 rfl rfl)
theorem dX15_init_1 : decode cX15_init 1 = .ok (.aload_n 1, 1) := dk_43 (dk_at dksX15_init_0 1 rfl rfl)
theorem dX15_init_2 : decode cX15_init 2 = .ok (.iload_n 2, 1) := dk_28 (dk_at dksX15_init_0 2 rfl rfl)
theorem dX15_init_3 : decode cX15_init 3 = .ok (.invokespecial 1, 3) := dk_183 0 1 (dk_at dksX15_init_0 3 rfl rfl)
theorem dX15_init_6 : decode cX15_init 6 = .ok (.return_, 1) := dk_177 (dk_at dksX15_init_0 6 rfl rfl)
theorem q133 : (Jvm.Cond.initialized "WrongRoom$Person") ∈ lw_all := lw_g (lw_at lw_m1 23 rfl) rfl
theorem q818 : (Jvm.Cond.sameField "WrongRoom$Person" "WrongRoom$Named" "name" "Ljava/lang/String;") ∈ lw_all := lw_g (lw_at lw_m3 228 rfl) rfl
theorem q886 : (Jvm.Cond.instantiable "WrongRoom$Person" (4 : Nat)) ∈ lw_all := lw_g (lw_at lw_m4 56 rfl) rfl
theorem q888 : (Jvm.Cond.instanceMethod ({ cls := "WrongRoom$Person", name := "<init>", desc := "(Ljava/lang/String;I)V" } : Jvm.MethodName)) ∈ lw_all := lw_g (lw_at lw_m4 58 rfl) rfl
theorem q889 : (Jvm.Cond.code ({ cls := "WrongRoom$Person", name := "<init>", desc := "(Ljava/lang/String;I)V" } : Jvm.MethodName) prog_10_method_1_code (3 : Nat) (Option.none : Option Jvm.ClassFile.FieldType)) ∈ lw_all := lw_g (lw_at lw_m4 59 rfl) rfl
theorem q890 : (Jvm.Cond.methodLink "WrongRoom$Person" (1 : Nat) ({ cls := "WrongRoom$Named", name := "<init>", desc := "(Ljava/lang/String;I)V" } : Jvm.MethodName)) ∈ lw_all := lw_g (lw_at lw_m4 60 rfl) rfl
theorem q895 : (Jvm.Cond.lays "WrongRoom$Person" "WrongRoom$Person" "home" "I") ∈ lw_all := lw_g (lw_at lw_m4 65 rfl) rfl
theorem q896 : (Jvm.Cond.soleField "WrongRoom$Person" "home") ∈ lw_all := lw_g (lw_at lw_m4 66 rfl) rfl
theorem q897 : (Jvm.Cond.lays "WrongRoom$Person" "WrongRoom$Person" "at" "I") ∈ lw_all := lw_g (lw_at lw_m4 67 rfl) rfl
theorem q898 : (Jvm.Cond.soleField "WrongRoom$Person" "at") ∈ lw_all := lw_g (lw_at lw_m4 68 rfl) rfl
theorem q899 : (Jvm.Cond.laysFinal "WrongRoom$Person" "WrongRoom$Named" "name" "Ljava/lang/String;") ∈ lw_all := lw_g (lw_at lw_m4 69 rfl) rfl
theorem q900 : (Jvm.Cond.laysFinal "WrongRoom$Person" "WrongRoom$Named" "number" "I") ∈ lw_all := lw_g (lw_at lw_m4 70 rfl) rfl
theorem q901 : (Jvm.Cond.superclass "WrongRoom$Person" "WrongRoom$Named") ∈ lw_all := lw_g (lw_at lw_m4 71 rfl) rfl
theorem q2182 : (Jvm.Cond.castable "WrongRoom$Person" "java/lang/Object") ∈ lw_tbl := lw_at lw_m9 152 rfl
theorem in_X15 : ∀ w ∈ wsX150, w ∈ lw_all := lw_in wsX150 [899, 900, 895, 897] (by decide +kernel) (by decide +kernel)
/-! WrongRoom$Notice -/
set_option maxRecDepth 100000
def RX16 : String := "WrongRoom$Notice"
abbrev cX16_init : ByteArray := prog_9_method_1_code
def yX16_init : MethodName := ⟨RX16, "<init>", "(I)V"⟩
def dkwX16_init_0 : List UInt8 := [42, 183, 0, 1, 42, 27, 181, 0, 7, 177]
abbrev dktX16_init_0 : List UInt8 := dkwX16_init_0 ++ []
theorem dksX16_init_0 : cX16_init.data.toList.drop 0 = dktX16_init_0 := by decide +kernel
theorem dX16_init_0 : decode cX16_init 0 = .ok (.aload_n 0, 1) := dk_42 (dk_at dksX16_init_0 0 rfl rfl)
theorem dX16_init_1 : decode cX16_init 1 = .ok (.invokespecial 1, 3) := dk_183 0 1 (dk_at dksX16_init_0 1 rfl rfl)
theorem dX16_init_4 : decode cX16_init 4 = .ok (.aload_n 0, 1) := dk_42 (dk_at dksX16_init_0 4 rfl rfl)
theorem dX16_init_5 : decode cX16_init 5 = .ok (.iload_n 1, 1) := dk_27 (dk_at dksX16_init_0 5 rfl rfl)
theorem dX16_init_6 : decode cX16_init 6 = .ok (.putfield 7, 3) := dk_181 0 7 (dk_at dksX16_init_0 6 rfl rfl)
theorem dX16_init_9 : decode cX16_init 9 = .ok (.return_, 1) := dk_177 (dk_at dksX16_init_0 9 rfl rfl)
theorem q134 : (Jvm.Cond.initialized "WrongRoom$Notice") ∈ lw_all := lw_g (lw_at lw_m1 24 rfl) rfl
theorem q914 : (Jvm.Cond.instanceMethod ({ cls := "WrongRoom$Notice", name := "<init>", desc := "(I)V" } : Jvm.MethodName)) ∈ lw_all := lw_g (lw_at lw_m4 84 rfl) rfl
theorem q915 : (Jvm.Cond.code ({ cls := "WrongRoom$Notice", name := "<init>", desc := "(I)V" } : Jvm.MethodName) prog_9_method_1_code (2 : Nat) (Option.none : Option Jvm.ClassFile.FieldType)) ∈ lw_all := lw_g (lw_at lw_m4 85 rfl) rfl
theorem q916 : (Jvm.Cond.methodLink "WrongRoom$Notice" (1 : Nat) ({ cls := "java/lang/Object", name := "<init>", desc := "()V" } : Jvm.MethodName)) ∈ lw_all := lw_g (lw_at lw_m4 86 rfl) rfl
theorem q918 : (Jvm.Cond.fieldLink "WrongRoom$Notice" (7 : Nat) "WrongRoom$Notice" "house" "I") ∈ lw_all := lw_g (lw_at lw_m4 88 rfl) rfl
theorem q924 : (Jvm.Cond.soleField "WrongRoom$Notice" "house") ∈ lw_all := lw_g (lw_at lw_m4 94 rfl) rfl
theorem q1038 : (Jvm.Cond.declares ({ cls := "WrongRoom$Notice", name := "isOf", desc := "(LWrongRoom$House;)Z" } : Jvm.MethodName)) ∈ lw_tbl := lw_at lw_m4 208 rfl
theorem q1039 : (Jvm.Cond.sameMethod "WrongRoom$Notice" "WrongRoom$Notice" "isOf" "(LWrongRoom$House;)Z") ∈ lw_all := lw_g (lw_at lw_m4 209 rfl) rfl
/-! WrongRoom$Sign -/
set_option maxRecDepth 100000
def RX17 : String := "WrongRoom$Sign"
def TX17 : u_T := fun k => match k with
  | 0 => ("WrongRoom$Notice", "house", "I", true)
  | _ => ("WrongRoom$Sign", "smell", "Ljava/lang/String;", true)
def tyX17 : Nat → FieldType := fun k => match k with
  | 0 => .int
  | _ => .object "java/lang/String"
abbrev wsX170 : List Cond := u_ws RX17 TX17 2
theorem nmX17 : ∀ a, a < 2 → ∀ b, b < 2 → a ≠ b → (TX17 a).2.1 ≠ (TX17 b).2.1 := by decide +kernel
theorem tyX17_ok : ∀ k, k < 2 → parseFieldDescriptor (TX17 k).2.2.1 = some (tyX17 k) := by decide +kernel
abbrev cX17_init : ByteArray := prog_15_method_1_code
def yX17_init : MethodName := ⟨RX17, "<init>", "(ILjava/lang/String;)V"⟩
def dkwX17_init_0 : List UInt8 := [42, 27, 183, 0, 1, 42, 44, 181, 0, 7, 177]
abbrev dktX17_init_0 : List UInt8 := dkwX17_init_0 ++ []
theorem dksX17_init_0 : cX17_init.data.toList.drop 0 = dktX17_init_0 := by decide +kernel
theorem dX17_init_0 : decode cX17_init 0 = .ok (.aload_n 0, 1) := dk_42 (dk_at dksX17_init_0 0 rfl rfl)
theorem dX17_init_1 : decode cX17_init 1 = .ok (.iload_n 1, 1) := dk_27 (dk_at dksX17_init_0 1 rfl rfl)
theorem dX17_init_2 : decode cX17_init 2 = .ok (.invokespecial 1, 3) := dk_183 0 1 (dk_at dksX17_init_0 2 rfl rfl)
theorem dX17_init_5 : decode cX17_init 5 = .ok (.aload_n 0, 1) := dk_42 (dk_at dksX17_init_0 5 rfl rfl)
theorem dX17_init_6 : decode cX17_init 6 = .ok (.aload_n 2, 1) := dk_44 (dk_at dksX17_init_0 6 rfl rfl)
theorem dX17_init_7 : decode cX17_init 7 = .ok (.putfield 7, 3) := dk_181 0 7 (dk_at dksX17_init_0 7 rfl rfl)
theorem dX17_init_10 : decode cX17_init 10 = .ok (.return_, 1) := dk_177 (dk_at dksX17_init_0 10 rfl rfl)
abbrev cX17_isOf : ByteArray := prog_15_method_2_code
def yX17_isOf : MethodName := ⟨RX17, "isOf", "(LWrongRoom$House;)Z"⟩
def dkwX17_isOf_0 : List UInt8 := [43, 180, 0, 13, 42, 180, 0, 7, 182, 0, 16, 172]
abbrev dktX17_isOf_0 : List UInt8 := dkwX17_isOf_0 ++ []
theorem dksX17_isOf_0 : cX17_isOf.data.toList.drop 0 = dktX17_isOf_0 := by decide +kernel
theorem dX17_isOf_0 : decode cX17_isOf 0 = .ok (.aload_n 1, 1) := dk_43 (dk_at dksX17_isOf_0 0 rfl rfl)
theorem dX17_isOf_1 : decode cX17_isOf 1 = .ok (.getfield 13, 3) := dk_180 0 13 (dk_at dksX17_isOf_0 1 rfl rfl)
theorem dX17_isOf_4 : decode cX17_isOf 4 = .ok (.aload_n 0, 1) := dk_42 (dk_at dksX17_isOf_0 4 rfl rfl)
theorem dX17_isOf_5 : decode cX17_isOf 5 = .ok (.getfield 7, 3) := dk_180 0 7 (dk_at dksX17_isOf_0 5 rfl rfl)
theorem dX17_isOf_8 : decode cX17_isOf 8 = .ok (.invokevirtual 16, 3) := dk_182 0 16 (dk_at dksX17_isOf_0 8 rfl rfl)
theorem dX17_isOf_11 : decode cX17_isOf 11 = .ok (.ireturn, 1) := dk_172 (dk_at dksX17_isOf_0 11 rfl rfl)
theorem q135 : (Jvm.Cond.initialized "WrongRoom$Sign") ∈ lw_all := lw_g (lw_at lw_m1 25 rfl) rfl
theorem q796 : (Jvm.Cond.fieldLink "WrongRoom$Sign" (13 : Nat) "WrongRoom$House" "smell" "Ljava/lang/String;") ∈ lw_all := lw_g (lw_at lw_m3 206 rfl) rfl
theorem q909 : (Jvm.Cond.instantiable "WrongRoom$Sign" (2 : Nat)) ∈ lw_all := lw_g (lw_at lw_m4 79 rfl) rfl
theorem q911 : (Jvm.Cond.instanceMethod ({ cls := "WrongRoom$Sign", name := "<init>", desc := "(ILjava/lang/String;)V" } : Jvm.MethodName)) ∈ lw_all := lw_g (lw_at lw_m4 81 rfl) rfl
theorem q912 : (Jvm.Cond.code ({ cls := "WrongRoom$Sign", name := "<init>", desc := "(ILjava/lang/String;)V" } : Jvm.MethodName) prog_15_method_1_code (3 : Nat) (Option.none : Option Jvm.ClassFile.FieldType)) ∈ lw_all := lw_g (lw_at lw_m4 82 rfl) rfl
theorem q913 : (Jvm.Cond.methodLink "WrongRoom$Sign" (1 : Nat) ({ cls := "WrongRoom$Notice", name := "<init>", desc := "(I)V" } : Jvm.MethodName)) ∈ lw_all := lw_g (lw_at lw_m4 83 rfl) rfl
theorem q917 : (Jvm.Cond.fieldLink "WrongRoom$Sign" (7 : Nat) "WrongRoom$Sign" "smell" "Ljava/lang/String;") ∈ lw_all := lw_g (lw_at lw_m4 87 rfl) rfl
theorem q921 : (Jvm.Cond.laysFinal "WrongRoom$Sign" "WrongRoom$Sign" "smell" "Ljava/lang/String;") ∈ lw_all := lw_g (lw_at lw_m4 91 rfl) rfl
theorem q922 : (Jvm.Cond.soleField "WrongRoom$Sign" "smell") ∈ lw_all := lw_g (lw_at lw_m4 92 rfl) rfl
theorem q923 : (Jvm.Cond.laysFinal "WrongRoom$Sign" "WrongRoom$Notice" "house" "I") ∈ lw_all := lw_g (lw_at lw_m4 93 rfl) rfl
theorem q925 : (Jvm.Cond.superclass "WrongRoom$Sign" "WrongRoom$Notice") ∈ lw_all := lw_g (lw_at lw_m4 95 rfl) rfl
theorem q1043 : (Jvm.Cond.selects "WrongRoom$Sign" ({ cls := "WrongRoom$Notice", name := "isOf", desc := "(LWrongRoom$House;)Z" } : Jvm.MethodName) ({ cls := "WrongRoom$Sign", name := "isOf", desc := "(LWrongRoom$House;)Z" } : Jvm.MethodName)) ∈ lw_all := lw_g (lw_at lw_m4 213 rfl) rfl
theorem q1044 : (Jvm.Cond.instanceMethod ({ cls := "WrongRoom$Sign", name := "isOf", desc := "(LWrongRoom$House;)Z" } : Jvm.MethodName)) ∈ lw_all := lw_g (lw_at lw_m4 214 rfl) rfl
theorem q1045 : (Jvm.Cond.code ({ cls := "WrongRoom$Sign", name := "isOf", desc := "(LWrongRoom$House;)Z" } : Jvm.MethodName) prog_15_method_2_code (2 : Nat) (Option.some Jvm.ClassFile.FieldType.boolean)) ∈ lw_all := lw_g (lw_at lw_m4 215 rfl) rfl
theorem q1046 : (Jvm.Cond.methodLink "WrongRoom$Sign" (16 : Nat) ({ cls := "java/lang/String", name := "equals", desc := "(Ljava/lang/Object;)Z" } : Jvm.MethodName)) ∈ lw_all := lw_g (lw_at lw_m4 216 rfl) rfl
theorem q2183 : (Jvm.Cond.castable "WrongRoom$Sign" "java/lang/Object") ∈ lw_tbl := lw_at lw_m9 153 rfl
theorem q2188 : (Jvm.Cond.castable "WrongRoom$Sign" "WrongRoom$Notice") ∈ lw_tbl := lw_at lw_m9 158 rfl
theorem in_X17 : ∀ w ∈ wsX170, w ∈ lw_all := lw_in wsX170 [923, 921] (by decide +kernel) (by decide +kernel)
/-! WrongRoom$Noise -/
set_option maxRecDepth 100000
def RX18 : String := "WrongRoom$Noise"
def TX18 : u_T := fun k => match k with
  | 0 => ("WrongRoom$Notice", "house", "I", true)
  | _ => ("WrongRoom$Noise", "rooms", "I", true)
def tyX18 : Nat → FieldType := fun k => match k with
  | 0 => .int
  | _ => .int
abbrev wsX180 : List Cond := u_ws RX18 TX18 2
theorem nmX18 : ∀ a, a < 2 → ∀ b, b < 2 → a ≠ b → (TX18 a).2.1 ≠ (TX18 b).2.1 := by decide +kernel
theorem tyX18_ok : ∀ k, k < 2 → parseFieldDescriptor (TX18 k).2.2.1 = some (tyX18 k) := by decide +kernel
abbrev cX18_init : ByteArray := prog_8_method_1_code
def yX18_init : MethodName := ⟨RX18, "<init>", "(II)V"⟩
def dkwX18_init_0 : List UInt8 := [42, 27, 183, 0, 1, 42, 28, 181, 0, 7, 177]
abbrev dktX18_init_0 : List UInt8 := dkwX18_init_0 ++ []
theorem dksX18_init_0 : cX18_init.data.toList.drop 0 = dktX18_init_0 := by decide +kernel
theorem dX18_init_0 : decode cX18_init 0 = .ok (.aload_n 0, 1) := dk_42 (dk_at dksX18_init_0 0 rfl rfl)
theorem dX18_init_1 : decode cX18_init 1 = .ok (.iload_n 1, 1) := dk_27 (dk_at dksX18_init_0 1 rfl rfl)
theorem dX18_init_2 : decode cX18_init 2 = .ok (.invokespecial 1, 3) := dk_183 0 1 (dk_at dksX18_init_0 2 rfl rfl)
theorem dX18_init_5 : decode cX18_init 5 = .ok (.aload_n 0, 1) := dk_42 (dk_at dksX18_init_0 5 rfl rfl)
theorem dX18_init_6 : decode cX18_init 6 = .ok (.iload_n 2, 1) := dk_28 (dk_at dksX18_init_0 6 rfl rfl)
theorem dX18_init_7 : decode cX18_init 7 = .ok (.putfield 7, 3) := dk_181 0 7 (dk_at dksX18_init_0 7 rfl rfl)
theorem dX18_init_10 : decode cX18_init 10 = .ok (.return_, 1) := dk_177 (dk_at dksX18_init_0 10 rfl rfl)
abbrev cX18_isOf : ByteArray := prog_8_method_2_code
def yX18_isOf : MethodName := ⟨RX18, "isOf", "(LWrongRoom$House;)Z"⟩
def dkwX18_isOf_0 : List UInt8 := [43, 180, 0, 13, 42, 180, 0, 7, 161, 0, 7, 4, 167, 0, 4, 3, 172]
abbrev dktX18_isOf_0 : List UInt8 := dkwX18_isOf_0 ++ []
theorem dksX18_isOf_0 : cX18_isOf.data.toList.drop 0 = dktX18_isOf_0 := by decide +kernel
theorem dX18_isOf_0 : decode cX18_isOf 0 = .ok (.aload_n 1, 1) := dk_43 (dk_at dksX18_isOf_0 0 rfl rfl)
theorem dX18_isOf_1 : decode cX18_isOf 1 = .ok (.getfield 13, 3) := dk_180 0 13 (dk_at dksX18_isOf_0 1 rfl rfl)
theorem dX18_isOf_4 : decode cX18_isOf 4 = .ok (.aload_n 0, 1) := dk_42 (dk_at dksX18_isOf_0 4 rfl rfl)
theorem dX18_isOf_5 : decode cX18_isOf 5 = .ok (.getfield 7, 3) := dk_180 0 7 (dk_at dksX18_isOf_0 5 rfl rfl)
theorem dX18_isOf_8 : decode cX18_isOf 8 = .ok (.if_icmp .lt 7, 3) := dk_161 0 7 (dk_at dksX18_isOf_0 8 rfl rfl)
theorem dX18_isOf_11 : decode cX18_isOf 11 = .ok (.iconst 1, 1) := dk_4 (dk_at dksX18_isOf_0 11 rfl rfl)
theorem dX18_isOf_12 : decode cX18_isOf 12 = .ok (.goto 4, 3) := dk_167 0 4 (dk_at dksX18_isOf_0 12 rfl rfl)
theorem dX18_isOf_15 : decode cX18_isOf 15 = .ok (.iconst 0, 1) := dk_3 (dk_at dksX18_isOf_0 15 rfl rfl)
theorem dX18_isOf_16 : decode cX18_isOf 16 = .ok (.ireturn, 1) := dk_172 (dk_at dksX18_isOf_0 16 rfl rfl)
theorem q136 : (Jvm.Cond.initialized "WrongRoom$Noise") ∈ lw_all := lw_g (lw_at lw_m1 26 rfl) rfl
theorem q798 : (Jvm.Cond.fieldLink "WrongRoom$Noise" (13 : Nat) "WrongRoom$House" "rooms" "I") ∈ lw_all := lw_g (lw_at lw_m3 208 rfl) rfl
theorem q939 : (Jvm.Cond.instantiable "WrongRoom$Noise" (2 : Nat)) ∈ lw_all := lw_g (lw_at lw_m4 109 rfl) rfl
theorem q941 : (Jvm.Cond.instanceMethod ({ cls := "WrongRoom$Noise", name := "<init>", desc := "(II)V" } : Jvm.MethodName)) ∈ lw_all := lw_g (lw_at lw_m4 111 rfl) rfl
theorem q942 : (Jvm.Cond.code ({ cls := "WrongRoom$Noise", name := "<init>", desc := "(II)V" } : Jvm.MethodName) prog_8_method_1_code (3 : Nat) (Option.none : Option Jvm.ClassFile.FieldType)) ∈ lw_all := lw_g (lw_at lw_m4 112 rfl) rfl
theorem q943 : (Jvm.Cond.methodLink "WrongRoom$Noise" (1 : Nat) ({ cls := "WrongRoom$Notice", name := "<init>", desc := "(I)V" } : Jvm.MethodName)) ∈ lw_all := lw_g (lw_at lw_m4 113 rfl) rfl
theorem q944 : (Jvm.Cond.fieldLink "WrongRoom$Noise" (7 : Nat) "WrongRoom$Noise" "rooms" "I") ∈ lw_all := lw_g (lw_at lw_m4 114 rfl) rfl
theorem q945 : (Jvm.Cond.laysFinal "WrongRoom$Noise" "WrongRoom$Noise" "rooms" "I") ∈ lw_all := lw_g (lw_at lw_m4 115 rfl) rfl
theorem q946 : (Jvm.Cond.soleField "WrongRoom$Noise" "rooms") ∈ lw_all := lw_g (lw_at lw_m4 116 rfl) rfl
theorem q947 : (Jvm.Cond.laysFinal "WrongRoom$Noise" "WrongRoom$Notice" "house" "I") ∈ lw_all := lw_g (lw_at lw_m4 117 rfl) rfl
theorem q948 : (Jvm.Cond.superclass "WrongRoom$Noise" "WrongRoom$Notice") ∈ lw_all := lw_g (lw_at lw_m4 118 rfl) rfl
theorem q1040 : (Jvm.Cond.selects "WrongRoom$Noise" ({ cls := "WrongRoom$Notice", name := "isOf", desc := "(LWrongRoom$House;)Z" } : Jvm.MethodName) ({ cls := "WrongRoom$Noise", name := "isOf", desc := "(LWrongRoom$House;)Z" } : Jvm.MethodName)) ∈ lw_all := lw_g (lw_at lw_m4 210 rfl) rfl
theorem q1041 : (Jvm.Cond.instanceMethod ({ cls := "WrongRoom$Noise", name := "isOf", desc := "(LWrongRoom$House;)Z" } : Jvm.MethodName)) ∈ lw_all := lw_g (lw_at lw_m4 211 rfl) rfl
theorem q1042 : (Jvm.Cond.code ({ cls := "WrongRoom$Noise", name := "isOf", desc := "(LWrongRoom$House;)Z" } : Jvm.MethodName) prog_8_method_2_code (2 : Nat) (Option.some Jvm.ClassFile.FieldType.boolean)) ∈ lw_all := lw_g (lw_at lw_m4 212 rfl) rfl
theorem q2184 : (Jvm.Cond.castable "WrongRoom$Noise" "java/lang/Object") ∈ lw_tbl := lw_at lw_m9 154 rfl
theorem q2189 : (Jvm.Cond.castable "WrongRoom$Noise" "WrongRoom$Notice") ∈ lw_tbl := lw_at lw_m9 159 rfl
theorem in_X18 : ∀ w ∈ wsX180, w ∈ lw_all := lw_in wsX180 [947, 945] (by decide +kernel) (by decide +kernel)
/-! WrongRoomModel$Town -/
set_option maxRecDepth 100000
def RX19 : String := "WrongRoomModel$Town"
def TX19 : u_T := fun k => match k with
  | 0 => ("WrongRoomModel$Town", "door", "I", false)
  | 1 => ("WrongRoomModel$Town", "like", "I", false)
  | 2 => ("WrongRoomModel$Town", "houses", "I", false)
  | 3 => ("WrongRoomModel$Town", "known", "I", false)
  | 4 => ("WrongRoomModel$Town", "hours", "I", false)
  | 5 => ("WrongRoomModel$Town", "streets", "I", false)
  | 6 => ("WrongRoomModel$Town", "people", "I", false)
  | 7 => ("WrongRoomModel$Town", "signs", "I", false)
  | 8 => ("WrongRoomModel$Town", "noises", "I", false)
  | 9 => ("WrongRoomModel$Town", "names", "I", false)
  | 10 => ("WrongRoomModel$Town", "rooms", "[I", true)
  | 11 => ("WrongRoomModel$Town", "rent", "[I", true)
  | 12 => ("WrongRoomModel$Town", "bill", "[I", true)
  | 13 => ("WrongRoomModel$Town", "wrong", "[I", true)
  | 14 => ("WrongRoomModel$Town", "opens", "[I", true)
  | 15 => ("WrongRoomModel$Town", "shuts", "[I", true)
  | 16 => ("WrongRoomModel$Town", "smell", "[J", true)
  | 17 => ("WrongRoomModel$Town", "minutes", "[I", true)
  | 18 => ("WrongRoomModel$Town", "home", "[I", true)
  | 19 => ("WrongRoomModel$Town", "at", "[I", true)
  | 20 => ("WrongRoomModel$Town", "signOf", "[I", true)
  | 21 => ("WrongRoomModel$Town", "noiseOf", "[I", true)
  | 22 => ("WrongRoomModel$Town", "noise", "[I", true)
  | 23 => ("WrongRoomModel$Town", "sign", "[J", true)
  | 24 => ("WrongRoomModel$Town", "name", "[J", true)
  | 25 => ("WrongRoomModel$Town", "nameSort", "[I", true)
  | _ => ("WrongRoomModel$Town", "numberOf", "[I", true)
def tyX19 : Nat → FieldType := fun k => match k with
  | 0 => .int
  | 1 => .int
  | 2 => .int
  | 3 => .int
  | 4 => .int
  | 5 => .int
  | 6 => .int
  | 7 => .int
  | 8 => .int
  | 9 => .int
  | 10 => .array .int
  | 11 => .array .int
  | 12 => .array .int
  | 13 => .array .int
  | 14 => .array .int
  | 15 => .array .int
  | 16 => .array .long
  | 17 => .array .int
  | 18 => .array .int
  | 19 => .array .int
  | 20 => .array .int
  | 21 => .array .int
  | 22 => .array .int
  | 23 => .array .long
  | 24 => .array .long
  | 25 => .array .int
  | _ => .array .int
abbrev wsX190 : List Cond := u_ws RX19 TX19 27
set_option maxRecDepth 100000 in
theorem nmX19 : ∀ a, a < 27 → ∀ b, b < 27 → a ≠ b → (TX19 a).2.1 ≠ (TX19 b).2.1 := by decide +kernel
set_option maxRecDepth 100000 in
theorem tyX19_ok : ∀ k, k < 27 → parseFieldDescriptor (TX19 k).2.2.1 = some (tyX19 k) := by decide +kernel
abbrev cX19_init : ByteArray := prog_20_method_1_code
def yX19_init : MethodName := ⟨RX19, "<init>", "()V"⟩
def dkwX19_init_5 : List UInt8 := [181, 0, 55, 42, 16, 11, 188, 10, 181, 0, 58, 42, 16, 11, 188, 10, 181, 0, 61, 177]
abbrev dktX19_init_5 : List UInt8 := dkwX19_init_5 ++ []
def dkwX19_init_4 : List UInt8 := [181, 0, 46, 42, 7, 188, 10, 181, 0, 49, 42, 16, 8, 188, 11, 181, 0, 52, 42, 16, 11, 188, 11]
abbrev dktX19_init_4 : List UInt8 := dkwX19_init_4 ++ dktX19_init_5
def dkwX19_init_3 : List UInt8 := [188, 10, 181, 0, 37, 42, 7, 188, 10, 181, 0, 40, 42, 16, 8, 188, 10, 181, 0, 43, 42, 7, 188, 10]
abbrev dktX19_init_3 : List UInt8 := dkwX19_init_3 ++ dktX19_init_4
def dkwX19_init_2 : List UInt8 := [188, 10, 181, 0, 27, 42, 16, 7, 188, 11, 181, 0, 30, 42, 16, 49, 188, 10, 181, 0, 34, 42, 7]
abbrev dktX19_init_2 : List UInt8 := dkwX19_init_2 ++ dktX19_init_3
def dkwX19_init_1 : List UInt8 := [188, 10, 181, 0, 18, 42, 16, 7, 188, 10, 181, 0, 21, 42, 16, 7, 188, 10, 181, 0, 24, 42, 16, 7]
abbrev dktX19_init_1 : List UInt8 := dkwX19_init_1 ++ dktX19_init_2
def dkwX19_init_0 : List UInt8 := [42, 183, 0, 3, 42, 16, 7, 188, 10, 181, 0, 9, 42, 16, 7, 188, 10, 181, 0, 15, 42, 16, 7]
abbrev dktX19_init_0 : List UInt8 := dkwX19_init_0 ++ dktX19_init_1
theorem dksX19_init_0 : cX19_init.data.toList.drop 0 = dktX19_init_0 := by decide +kernel
theorem dksX19_init_1 : cX19_init.data.toList.drop 23 = dktX19_init_1 := dk_seg dksX19_init_0 23 rfl rfl
theorem dksX19_init_2 : cX19_init.data.toList.drop 47 = dktX19_init_2 := dk_seg dksX19_init_1 24 rfl rfl
theorem dksX19_init_3 : cX19_init.data.toList.drop 70 = dktX19_init_3 := dk_seg dksX19_init_2 23 rfl rfl
theorem dksX19_init_4 : cX19_init.data.toList.drop 94 = dktX19_init_4 := dk_seg dksX19_init_3 24 rfl rfl
theorem dksX19_init_5 : cX19_init.data.toList.drop 117 = dktX19_init_5 := dk_seg dksX19_init_4 23 rfl rfl
theorem dX19_init_0 : decode cX19_init 0 = .ok (.aload_n 0, 1) := dk_42 (dk_at dksX19_init_0 0 rfl rfl)
theorem dX19_init_1 : decode cX19_init 1 = .ok (.invokespecial 3, 3) := dk_183 0 3 (dk_at dksX19_init_0 1 rfl rfl)
theorem dX19_init_4 : decode cX19_init 4 = .ok (.aload_n 0, 1) := dk_42 (dk_at dksX19_init_0 4 rfl rfl)
theorem dX19_init_5 : decode cX19_init 5 = .ok (.bipush 7, 2) := dk_16 7 (dk_at dksX19_init_0 5 rfl rfl)
theorem dX19_init_7 : decode cX19_init 7 = .ok (.newarray .int, 2) := dk_188_10 (dk_at dksX19_init_0 7 rfl rfl)
theorem dX19_init_9 : decode cX19_init 9 = .ok (.putfield 9, 3) := dk_181 0 9 (dk_at dksX19_init_0 9 rfl rfl)
theorem dX19_init_12 : decode cX19_init 12 = .ok (.aload_n 0, 1) := dk_42 (dk_at dksX19_init_0 12 rfl rfl)
theorem dX19_init_13 : decode cX19_init 13 = .ok (.bipush 7, 2) := dk_16 7 (dk_at dksX19_init_0 13 rfl rfl)
theorem dX19_init_15 : decode cX19_init 15 = .ok (.newarray .int, 2) := dk_188_10 (dk_at dksX19_init_0 15 rfl rfl)
theorem dX19_init_17 : decode cX19_init 17 = .ok (.putfield 15, 3) := dk_181 0 15 (dk_at dksX19_init_0 17 rfl rfl)
theorem dX19_init_20 : decode cX19_init 20 = .ok (.aload_n 0, 1) := dk_42 (dk_at dksX19_init_0 20 rfl rfl)
theorem dX19_init_21 : decode cX19_init 21 = .ok (.bipush 7, 2) := dk_16 7 (dk_at dksX19_init_0 21 rfl rfl)
theorem dX19_init_23 : decode cX19_init 23 = .ok (.newarray .int, 2) := dk_188_10 (dk_at dksX19_init_1 0 rfl rfl)
theorem dX19_init_25 : decode cX19_init 25 = .ok (.putfield 18, 3) := dk_181 0 18 (dk_at dksX19_init_1 2 rfl rfl)
theorem dX19_init_28 : decode cX19_init 28 = .ok (.aload_n 0, 1) := dk_42 (dk_at dksX19_init_1 5 rfl rfl)
theorem dX19_init_29 : decode cX19_init 29 = .ok (.bipush 7, 2) := dk_16 7 (dk_at dksX19_init_1 6 rfl rfl)
theorem dX19_init_31 : decode cX19_init 31 = .ok (.newarray .int, 2) := dk_188_10 (dk_at dksX19_init_1 8 rfl rfl)
theorem dX19_init_33 : decode cX19_init 33 = .ok (.putfield 21, 3) := dk_181 0 21 (dk_at dksX19_init_1 10 rfl rfl)
theorem dX19_init_36 : decode cX19_init 36 = .ok (.aload_n 0, 1) := dk_42 (dk_at dksX19_init_1 13 rfl rfl)
theorem dX19_init_37 : decode cX19_init 37 = .ok (.bipush 7, 2) := dk_16 7 (dk_at dksX19_init_1 14 rfl rfl)
theorem dX19_init_39 : decode cX19_init 39 = .ok (.newarray .int, 2) := dk_188_10 (dk_at dksX19_init_1 16 rfl rfl)
theorem dX19_init_41 : decode cX19_init 41 = .ok (.putfield 24, 3) := dk_181 0 24 (dk_at dksX19_init_1 18 rfl rfl)
theorem dX19_init_44 : decode cX19_init 44 = .ok (.aload_n 0, 1) := dk_42 (dk_at dksX19_init_1 21 rfl rfl)
theorem dX19_init_45 : decode cX19_init 45 = .ok (.bipush 7, 2) := dk_16 7 (dk_at dksX19_init_1 22 rfl rfl)
theorem dX19_init_47 : decode cX19_init 47 = .ok (.newarray .int, 2) := dk_188_10 (dk_at dksX19_init_2 0 rfl rfl)
theorem dX19_init_49 : decode cX19_init 49 = .ok (.putfield 27, 3) := dk_181 0 27 (dk_at dksX19_init_2 2 rfl rfl)
theorem dX19_init_52 : decode cX19_init 52 = .ok (.aload_n 0, 1) := dk_42 (dk_at dksX19_init_2 5 rfl rfl)
theorem dX19_init_53 : decode cX19_init 53 = .ok (.bipush 7, 2) := dk_16 7 (dk_at dksX19_init_2 6 rfl rfl)
theorem dX19_init_55 : decode cX19_init 55 = .ok (.newarray .long, 2) := dk_188_11 (dk_at dksX19_init_2 8 rfl rfl)
theorem dX19_init_57 : decode cX19_init 57 = .ok (.putfield 30, 3) := dk_181 0 30 (dk_at dksX19_init_2 10 rfl rfl)
theorem dX19_init_60 : decode cX19_init 60 = .ok (.aload_n 0, 1) := dk_42 (dk_at dksX19_init_2 13 rfl rfl)
theorem dX19_init_61 : decode cX19_init 61 = .ok (.bipush 49, 2) := dk_16 49 (dk_at dksX19_init_2 14 rfl rfl)
theorem dX19_init_63 : decode cX19_init 63 = .ok (.newarray .int, 2) := dk_188_10 (dk_at dksX19_init_2 16 rfl rfl)
theorem dX19_init_65 : decode cX19_init 65 = .ok (.putfield 34, 3) := dk_181 0 34 (dk_at dksX19_init_2 18 rfl rfl)
theorem dX19_init_68 : decode cX19_init 68 = .ok (.aload_n 0, 1) := dk_42 (dk_at dksX19_init_2 21 rfl rfl)
theorem dX19_init_69 : decode cX19_init 69 = .ok (.iconst 4, 1) := dk_7 (dk_at dksX19_init_2 22 rfl rfl)
theorem dX19_init_70 : decode cX19_init 70 = .ok (.newarray .int, 2) := dk_188_10 (dk_at dksX19_init_3 0 rfl rfl)
theorem dX19_init_72 : decode cX19_init 72 = .ok (.putfield 37, 3) := dk_181 0 37 (dk_at dksX19_init_3 2 rfl rfl)
theorem dX19_init_75 : decode cX19_init 75 = .ok (.aload_n 0, 1) := dk_42 (dk_at dksX19_init_3 5 rfl rfl)
theorem dX19_init_76 : decode cX19_init 76 = .ok (.iconst 4, 1) := dk_7 (dk_at dksX19_init_3 6 rfl rfl)
theorem dX19_init_77 : decode cX19_init 77 = .ok (.newarray .int, 2) := dk_188_10 (dk_at dksX19_init_3 7 rfl rfl)
theorem dX19_init_79 : decode cX19_init 79 = .ok (.putfield 40, 3) := dk_181 0 40 (dk_at dksX19_init_3 9 rfl rfl)
theorem dX19_init_82 : decode cX19_init 82 = .ok (.aload_n 0, 1) := dk_42 (dk_at dksX19_init_3 12 rfl rfl)
theorem dX19_init_83 : decode cX19_init 83 = .ok (.bipush 8, 2) := dk_16 8 (dk_at dksX19_init_3 13 rfl rfl)
theorem dX19_init_85 : decode cX19_init 85 = .ok (.newarray .int, 2) := dk_188_10 (dk_at dksX19_init_3 15 rfl rfl)
theorem dX19_init_87 : decode cX19_init 87 = .ok (.putfield 43, 3) := dk_181 0 43 (dk_at dksX19_init_3 17 rfl rfl)
theorem dX19_init_90 : decode cX19_init 90 = .ok (.aload_n 0, 1) := dk_42 (dk_at dksX19_init_3 20 rfl rfl)
theorem dX19_init_91 : decode cX19_init 91 = .ok (.iconst 4, 1) := dk_7 (dk_at dksX19_init_3 21 rfl rfl)
theorem dX19_init_92 : decode cX19_init 92 = .ok (.newarray .int, 2) := dk_188_10 (dk_at dksX19_init_3 22 rfl rfl)
theorem dX19_init_94 : decode cX19_init 94 = .ok (.putfield 46, 3) := dk_181 0 46 (dk_at dksX19_init_4 0 rfl rfl)
theorem dX19_init_97 : decode cX19_init 97 = .ok (.aload_n 0, 1) := dk_42 (dk_at dksX19_init_4 3 rfl rfl)
theorem dX19_init_98 : decode cX19_init 98 = .ok (.iconst 4, 1) := dk_7 (dk_at dksX19_init_4 4 rfl rfl)
theorem dX19_init_99 : decode cX19_init 99 = .ok (.newarray .int, 2) := dk_188_10 (dk_at dksX19_init_4 5 rfl rfl)
theorem dX19_init_101 : decode cX19_init 101 = .ok (.putfield 49, 3) := dk_181 0 49 (dk_at dksX19_init_4 7 rfl rfl)
theorem dX19_init_104 : decode cX19_init 104 = .ok (.aload_n 0, 1) := dk_42 (dk_at dksX19_init_4 10 rfl rfl)
theorem dX19_init_105 : decode cX19_init 105 = .ok (.bipush 8, 2) := dk_16 8 (dk_at dksX19_init_4 11 rfl rfl)
theorem dX19_init_107 : decode cX19_init 107 = .ok (.newarray .long, 2) := dk_188_11 (dk_at dksX19_init_4 13 rfl rfl)
theorem dX19_init_109 : decode cX19_init 109 = .ok (.putfield 52, 3) := dk_181 0 52 (dk_at dksX19_init_4 15 rfl rfl)
theorem dX19_init_112 : decode cX19_init 112 = .ok (.aload_n 0, 1) := dk_42 (dk_at dksX19_init_4 18 rfl rfl)
theorem dX19_init_113 : decode cX19_init 113 = .ok (.bipush 11, 2) := dk_16 11 (dk_at dksX19_init_4 19 rfl rfl)
theorem dX19_init_115 : decode cX19_init 115 = .ok (.newarray .long, 2) := dk_188_11 (dk_at dksX19_init_4 21 rfl rfl)
theorem dX19_init_117 : decode cX19_init 117 = .ok (.putfield 55, 3) := dk_181 0 55 (dk_at dksX19_init_5 0 rfl rfl)
theorem dX19_init_120 : decode cX19_init 120 = .ok (.aload_n 0, 1) := dk_42 (dk_at dksX19_init_5 3 rfl rfl)
theorem dX19_init_121 : decode cX19_init 121 = .ok (.bipush 11, 2) := dk_16 11 (dk_at dksX19_init_5 4 rfl rfl)
theorem dX19_init_123 : decode cX19_init 123 = .ok (.newarray .int, 2) := dk_188_10 (dk_at dksX19_init_5 6 rfl rfl)
theorem dX19_init_125 : decode cX19_init 125 = .ok (.putfield 58, 3) := dk_181 0 58 (dk_at dksX19_init_5 8 rfl rfl)
theorem dX19_init_128 : decode cX19_init 128 = .ok (.aload_n 0, 1) := dk_42 (dk_at dksX19_init_5 11 rfl rfl)
theorem dX19_init_129 : decode cX19_init 129 = .ok (.bipush 11, 2) := dk_16 11 (dk_at dksX19_init_5 12 rfl rfl)
theorem dX19_init_131 : decode cX19_init 131 = .ok (.newarray .int, 2) := dk_188_10 (dk_at dksX19_init_5 14 rfl rfl)
theorem dX19_init_133 : decode cX19_init 133 = .ok (.putfield 61, 3) := dk_181 0 61 (dk_at dksX19_init_5 16 rfl rfl)
theorem dX19_init_136 : decode cX19_init 136 = .ok (.return_, 1) := dk_177 (dk_at dksX19_init_5 19 rfl rfl)
abbrev cX19_find : ByteArray := prog_20_method_2_code
def yX19_find : MethodName := ⟨RX19, "find", "(J)I"⟩
def dkwX19_find_1 : List UInt8 := [132, 3, 1, 167, 255, 232, 2, 172]
abbrev dktX19_find_1 : List UInt8 := dkwX19_find_1 ++ []
def dkwX19_find_0 : List UInt8 := [3, 62, 29, 42, 180, 0, 64, 162, 0, 22, 42, 180, 0, 55, 29, 47, 31, 148, 154, 0, 5, 29, 172]
abbrev dktX19_find_0 : List UInt8 := dkwX19_find_0 ++ dktX19_find_1
theorem dksX19_find_0 : cX19_find.data.toList.drop 0 = dktX19_find_0 := by decide +kernel
theorem dksX19_find_1 : cX19_find.data.toList.drop 23 = dktX19_find_1 := dk_seg dksX19_find_0 23 rfl rfl
theorem dX19_find_0 : decode cX19_find 0 = .ok (.iconst 0, 1) := dk_3 (dk_at dksX19_find_0 0 rfl rfl)
theorem dX19_find_1 : decode cX19_find 1 = .ok (.istore_n 3, 1) := dk_62 (dk_at dksX19_find_0 1 rfl rfl)
theorem dX19_find_2 : decode cX19_find 2 = .ok (.iload_n 3, 1) := dk_29 (dk_at dksX19_find_0 2 rfl rfl)
theorem dX19_find_3 : decode cX19_find 3 = .ok (.aload_n 0, 1) := dk_42 (dk_at dksX19_find_0 3 rfl rfl)
theorem dX19_find_4 : decode cX19_find 4 = .ok (.getfield 64, 3) := dk_180 0 64 (dk_at dksX19_find_0 4 rfl rfl)
theorem dX19_find_7 : decode cX19_find 7 = .ok (.if_icmp .ge 22, 3) := dk_162 0 22 (dk_at dksX19_find_0 7 rfl rfl)
theorem dX19_find_10 : decode cX19_find 10 = .ok (.aload_n 0, 1) := dk_42 (dk_at dksX19_find_0 10 rfl rfl)
theorem dX19_find_11 : decode cX19_find 11 = .ok (.getfield 55, 3) := dk_180 0 55 (dk_at dksX19_find_0 11 rfl rfl)
theorem dX19_find_14 : decode cX19_find 14 = .ok (.iload_n 3, 1) := dk_29 (dk_at dksX19_find_0 14 rfl rfl)
theorem dX19_find_15 : decode cX19_find 15 = .ok (.laload, 1) := dk_47 (dk_at dksX19_find_0 15 rfl rfl)
theorem dX19_find_16 : decode cX19_find 16 = .ok (.lload_n 1, 1) := dk_31 (dk_at dksX19_find_0 16 rfl rfl)
theorem dX19_find_17 : decode cX19_find 17 = .ok (.lcmp, 1) := dk_148 (dk_at dksX19_find_0 17 rfl rfl)
theorem dX19_find_18 : decode cX19_find 18 = .ok (.ifCond .ne 5, 3) := dk_154 0 5 (dk_at dksX19_find_0 18 rfl rfl)
theorem dX19_find_21 : decode cX19_find 21 = .ok (.iload_n 3, 1) := dk_29 (dk_at dksX19_find_0 21 rfl rfl)
theorem dX19_find_22 : decode cX19_find 22 = .ok (.ireturn, 1) := dk_172 (dk_at dksX19_find_0 22 rfl rfl)
theorem dX19_find_23 : decode cX19_find 23 = .ok (.iinc 3 1, 3) := dk_132 3 1 (dk_at dksX19_find_1 0 rfl rfl)
theorem dX19_find_26 : decode cX19_find 26 = .ok (.goto (-24), 3) := dk_167 255 232 (dk_at dksX19_find_1 3 rfl rfl)
theorem dX19_find_29 : decode cX19_find 29 = .ok (.iconst (-1), 1) := dk_2 (dk_at dksX19_find_1 6 rfl rfl)
theorem dX19_find_30 : decode cX19_find 30 = .ok (.ireturn, 1) := dk_172 (dk_at dksX19_find_1 7 rfl rfl)
abbrev cX19_isOf : ByteArray := prog_20_method_3_code
def yX19_isOf : MethodName := ⟨RX19, "isOf", "(I)Z"⟩
def dkwX19_isOf_1 : List UInt8 := [132, 2, 1, 167, 255, 233, 3, 172]
abbrev dktX19_isOf_1 : List UInt8 := dkwX19_isOf_1 ++ []
def dkwX19_isOf_0 : List UInt8 := [3, 61, 28, 42, 180, 0, 68, 162, 0, 21, 42, 180, 0, 21, 28, 46, 27, 160, 0, 5, 4, 172]
abbrev dktX19_isOf_0 : List UInt8 := dkwX19_isOf_0 ++ dktX19_isOf_1
theorem dksX19_isOf_0 : cX19_isOf.data.toList.drop 0 = dktX19_isOf_0 := by decide +kernel
theorem dksX19_isOf_1 : cX19_isOf.data.toList.drop 22 = dktX19_isOf_1 := dk_seg dksX19_isOf_0 22 rfl rfl
theorem dX19_isOf_0 : decode cX19_isOf 0 = .ok (.iconst 0, 1) := dk_3 (dk_at dksX19_isOf_0 0 rfl rfl)
theorem dX19_isOf_1 : decode cX19_isOf 1 = .ok (.istore_n 2, 1) := dk_61 (dk_at dksX19_isOf_0 1 rfl rfl)
theorem dX19_isOf_2 : decode cX19_isOf 2 = .ok (.iload_n 2, 1) := dk_28 (dk_at dksX19_isOf_0 2 rfl rfl)
theorem dX19_isOf_3 : decode cX19_isOf 3 = .ok (.aload_n 0, 1) := dk_42 (dk_at dksX19_isOf_0 3 rfl rfl)
theorem dX19_isOf_4 : decode cX19_isOf 4 = .ok (.getfield 68, 3) := dk_180 0 68 (dk_at dksX19_isOf_0 4 rfl rfl)
theorem dX19_isOf_7 : decode cX19_isOf 7 = .ok (.if_icmp .ge 21, 3) := dk_162 0 21 (dk_at dksX19_isOf_0 7 rfl rfl)
theorem dX19_isOf_10 : decode cX19_isOf 10 = .ok (.aload_n 0, 1) := dk_42 (dk_at dksX19_isOf_0 10 rfl rfl)
theorem dX19_isOf_11 : decode cX19_isOf 11 = .ok (.getfield 21, 3) := dk_180 0 21 (dk_at dksX19_isOf_0 11 rfl rfl)
theorem dX19_isOf_14 : decode cX19_isOf 14 = .ok (.iload_n 2, 1) := dk_28 (dk_at dksX19_isOf_0 14 rfl rfl)
theorem dX19_isOf_15 : decode cX19_isOf 15 = .ok (.iaload, 1) := dk_46 (dk_at dksX19_isOf_0 15 rfl rfl)
theorem dX19_isOf_16 : decode cX19_isOf 16 = .ok (.iload_n 1, 1) := dk_27 (dk_at dksX19_isOf_0 16 rfl rfl)
theorem dX19_isOf_17 : decode cX19_isOf 17 = .ok (.if_icmp .ne 5, 3) := dk_160 0 5 (dk_at dksX19_isOf_0 17 rfl rfl)
theorem dX19_isOf_20 : decode cX19_isOf 20 = .ok (.iconst 1, 1) := dk_4 (dk_at dksX19_isOf_0 20 rfl rfl)
theorem dX19_isOf_21 : decode cX19_isOf 21 = .ok (.ireturn, 1) := dk_172 (dk_at dksX19_isOf_0 21 rfl rfl)
theorem dX19_isOf_22 : decode cX19_isOf 22 = .ok (.iinc 2 1, 3) := dk_132 2 1 (dk_at dksX19_isOf_1 0 rfl rfl)
theorem dX19_isOf_25 : decode cX19_isOf 25 = .ok (.goto (-23), 3) := dk_167 255 233 (dk_at dksX19_isOf_1 3 rfl rfl)
theorem dX19_isOf_28 : decode cX19_isOf 28 = .ok (.iconst 0, 1) := dk_3 (dk_at dksX19_isOf_1 6 rfl rfl)
theorem dX19_isOf_29 : decode cX19_isOf 29 = .ok (.ireturn, 1) := dk_172 (dk_at dksX19_isOf_1 7 rfl rfl)
abbrev cX19_isTimed : ByteArray := prog_20_method_4_code
def yX19_isTimed : MethodName := ⟨RX19, "isTimed", "(I)Z"⟩
def dkwX19_isTimed_0 : List UInt8 := [42, 180, 0, 24, 27, 46, 2, 159, 0, 7, 4, 167, 0, 4, 3, 172]
abbrev dktX19_isTimed_0 : List UInt8 := dkwX19_isTimed_0 ++ []
theorem dksX19_isTimed_0 : cX19_isTimed.data.toList.drop 0 = dktX19_isTimed_0 := by decide +kernel
theorem dX19_isTimed_0 : decode cX19_isTimed 0 = .ok (.aload_n 0, 1) := dk_42 (dk_at dksX19_isTimed_0 0 rfl rfl)
theorem dX19_isTimed_1 : decode cX19_isTimed 1 = .ok (.getfield 24, 3) := dk_180 0 24 (dk_at dksX19_isTimed_0 1 rfl rfl)
theorem dX19_isTimed_4 : decode cX19_isTimed 4 = .ok (.iload_n 1, 1) := dk_27 (dk_at dksX19_isTimed_0 4 rfl rfl)
theorem dX19_isTimed_5 : decode cX19_isTimed 5 = .ok (.iaload, 1) := dk_46 (dk_at dksX19_isTimed_0 5 rfl rfl)
theorem dX19_isTimed_6 : decode cX19_isTimed 6 = .ok (.iconst (-1), 1) := dk_2 (dk_at dksX19_isTimed_0 6 rfl rfl)
theorem dX19_isTimed_7 : decode cX19_isTimed 7 = .ok (.if_icmp .eq 7, 3) := dk_159 0 7 (dk_at dksX19_isTimed_0 7 rfl rfl)
theorem dX19_isTimed_10 : decode cX19_isTimed 10 = .ok (.iconst 1, 1) := dk_4 (dk_at dksX19_isTimed_0 10 rfl rfl)
theorem dX19_isTimed_11 : decode cX19_isTimed 11 = .ok (.goto 4, 3) := dk_167 0 4 (dk_at dksX19_isTimed_0 11 rfl rfl)
theorem dX19_isTimed_14 : decode cX19_isTimed 14 = .ok (.iconst 0, 1) := dk_3 (dk_at dksX19_isTimed_0 14 rfl rfl)
theorem dX19_isTimed_15 : decode cX19_isTimed 15 = .ok (.ireturn, 1) := dk_172 (dk_at dksX19_isTimed_0 15 rfl rfl)
abbrev cX19_isHour : ByteArray := prog_20_method_5_code
def yX19_isHour : MethodName := ⟨RX19, "isHour", "(II)Z"⟩
def dkwX19_isHour_1 : List UInt8 := [184, 0, 75, 153, 0, 7, 4, 167, 0, 4, 3, 172]
abbrev dktX19_isHour_1 : List UInt8 := dkwX19_isHour_1 ++ []
def dkwX19_isHour_0 : List UInt8 := [42, 27, 182, 0, 71, 153, 0, 25, 28, 16, 60, 108, 42, 180, 0, 24, 27, 46, 42, 180, 0, 27, 27, 46]
abbrev dktX19_isHour_0 : List UInt8 := dkwX19_isHour_0 ++ dktX19_isHour_1
theorem dksX19_isHour_0 : cX19_isHour.data.toList.drop 0 = dktX19_isHour_0 := by decide +kernel
theorem dksX19_isHour_1 : cX19_isHour.data.toList.drop 24 = dktX19_isHour_1 := dk_seg dksX19_isHour_0 24 rfl rfl
theorem dX19_isHour_0 : decode cX19_isHour 0 = .ok (.aload_n 0, 1) := dk_42 (dk_at dksX19_isHour_0 0 rfl rfl)
theorem dX19_isHour_1 : decode cX19_isHour 1 = .ok (.iload_n 1, 1) := dk_27 (dk_at dksX19_isHour_0 1 rfl rfl)
theorem dX19_isHour_2 : decode cX19_isHour 2 = .ok (.invokevirtual 71, 3) := dk_182 0 71 (dk_at dksX19_isHour_0 2 rfl rfl)
theorem dX19_isHour_5 : decode cX19_isHour 5 = .ok (.ifCond .eq 25, 3) := dk_153 0 25 (dk_at dksX19_isHour_0 5 rfl rfl)
theorem dX19_isHour_8 : decode cX19_isHour 8 = .ok (.iload_n 2, 1) := dk_28 (dk_at dksX19_isHour_0 8 rfl rfl)
theorem dX19_isHour_9 : decode cX19_isHour 9 = .ok (.bipush 60, 2) := dk_16 60 (dk_at dksX19_isHour_0 9 rfl rfl)
theorem dX19_isHour_11 : decode cX19_isHour 11 = .ok (.idiv, 1) := dk_108 (dk_at dksX19_isHour_0 11 rfl rfl)
theorem dX19_isHour_12 : decode cX19_isHour 12 = .ok (.aload_n 0, 1) := dk_42 (dk_at dksX19_isHour_0 12 rfl rfl)
theorem dX19_isHour_13 : decode cX19_isHour 13 = .ok (.getfield 24, 3) := dk_180 0 24 (dk_at dksX19_isHour_0 13 rfl rfl)
theorem dX19_isHour_16 : decode cX19_isHour 16 = .ok (.iload_n 1, 1) := dk_27 (dk_at dksX19_isHour_0 16 rfl rfl)
theorem dX19_isHour_17 : decode cX19_isHour 17 = .ok (.iaload, 1) := dk_46 (dk_at dksX19_isHour_0 17 rfl rfl)
theorem dX19_isHour_18 : decode cX19_isHour 18 = .ok (.aload_n 0, 1) := dk_42 (dk_at dksX19_isHour_0 18 rfl rfl)
theorem dX19_isHour_19 : decode cX19_isHour 19 = .ok (.getfield 27, 3) := dk_180 0 27 (dk_at dksX19_isHour_0 19 rfl rfl)
theorem dX19_isHour_22 : decode cX19_isHour 22 = .ok (.iload_n 1, 1) := dk_27 (dk_at dksX19_isHour_0 22 rfl rfl)
theorem dX19_isHour_23 : decode cX19_isHour 23 = .ok (.iaload, 1) := dk_46 (dk_at dksX19_isHour_0 23 rfl rfl)
theorem dX19_isHour_24 : decode cX19_isHour 24 = .ok (.invokestatic 75, 3) := dk_184 0 75 (dk_at dksX19_isHour_1 0 rfl rfl)
theorem dX19_isHour_27 : decode cX19_isHour 27 = .ok (.ifCond .eq 7, 3) := dk_153 0 7 (dk_at dksX19_isHour_1 3 rfl rfl)
theorem dX19_isHour_30 : decode cX19_isHour 30 = .ok (.iconst 1, 1) := dk_4 (dk_at dksX19_isHour_1 6 rfl rfl)
theorem dX19_isHour_31 : decode cX19_isHour 31 = .ok (.goto 4, 3) := dk_167 0 4 (dk_at dksX19_isHour_1 7 rfl rfl)
theorem dX19_isHour_34 : decode cX19_isHour 34 = .ok (.iconst 0, 1) := dk_3 (dk_at dksX19_isHour_1 10 rfl rfl)
theorem dX19_isHour_35 : decode cX19_isHour 35 = .ok (.ireturn, 1) := dk_172 (dk_at dksX19_isHour_1 11 rfl rfl)
abbrev cX19_mayBe : ByteArray := prog_20_method_6_code
def yX19_mayBe : MethodName := ⟨RX19, "mayBe", "(II)Z"⟩
def dkwX19_mayBe_3 : List UInt8 := [180, 0, 49, 29, 46, 42, 180, 0, 9, 28, 46, 164, 0, 5, 3, 172, 132, 3, 1, 167, 255, 218, 4, 172]
abbrev dktX19_mayBe_3 : List UInt8 := dkwX19_mayBe_3 ++ []
def dkwX19_mayBe_2 : List UInt8 := [167, 255, 217, 3, 62, 29, 42, 180, 0, 82, 162, 0, 36, 42, 180, 0, 46, 29, 46, 27, 160, 0, 20, 42]
abbrev dktX19_mayBe_2 : List UInt8 := dkwX19_mayBe_2 ++ dktX19_mayBe_3
def dkwX19_mayBe_1 : List UInt8 := [160, 0, 21, 42, 180, 0, 52, 29, 47, 42, 180, 0, 30, 28, 47, 148, 153, 0, 5, 3, 172, 132, 3, 1]
abbrev dktX19_mayBe_1 : List UInt8 := dkwX19_mayBe_1 ++ dktX19_mayBe_2
def dkwX19_mayBe_0 : List UInt8 := [27, 28, 160, 0, 5, 3, 172, 3, 62, 29, 42, 180, 0, 79, 162, 0, 37, 42, 180, 0, 43, 29, 46, 27]
abbrev dktX19_mayBe_0 : List UInt8 := dkwX19_mayBe_0 ++ dktX19_mayBe_1
theorem dksX19_mayBe_0 : cX19_mayBe.data.toList.drop 0 = dktX19_mayBe_0 := by decide +kernel
theorem dksX19_mayBe_1 : cX19_mayBe.data.toList.drop 24 = dktX19_mayBe_1 := dk_seg dksX19_mayBe_0 24 rfl rfl
theorem dksX19_mayBe_2 : cX19_mayBe.data.toList.drop 48 = dktX19_mayBe_2 := dk_seg dksX19_mayBe_1 24 rfl rfl
theorem dksX19_mayBe_3 : cX19_mayBe.data.toList.drop 72 = dktX19_mayBe_3 := dk_seg dksX19_mayBe_2 24 rfl rfl
theorem dX19_mayBe_0 : decode cX19_mayBe 0 = .ok (.iload_n 1, 1) := dk_27 (dk_at dksX19_mayBe_0 0 rfl rfl)
theorem dX19_mayBe_1 : decode cX19_mayBe 1 = .ok (.iload_n 2, 1) := dk_28 (dk_at dksX19_mayBe_0 1 rfl rfl)
theorem dX19_mayBe_2 : decode cX19_mayBe 2 = .ok (.if_icmp .ne 5, 3) := dk_160 0 5 (dk_at dksX19_mayBe_0 2 rfl rfl)
theorem dX19_mayBe_5 : decode cX19_mayBe 5 = .ok (.iconst 0, 1) := dk_3 (dk_at dksX19_mayBe_0 5 rfl rfl)
theorem dX19_mayBe_6 : decode cX19_mayBe 6 = .ok (.ireturn, 1) := dk_172 (dk_at dksX19_mayBe_0 6 rfl rfl)
theorem dX19_mayBe_7 : decode cX19_mayBe 7 = .ok (.iconst 0, 1) := dk_3 (dk_at dksX19_mayBe_0 7 rfl rfl)
theorem dX19_mayBe_8 : decode cX19_mayBe 8 = .ok (.istore_n 3, 1) := dk_62 (dk_at dksX19_mayBe_0 8 rfl rfl)
theorem dX19_mayBe_9 : decode cX19_mayBe 9 = .ok (.iload_n 3, 1) := dk_29 (dk_at dksX19_mayBe_0 9 rfl rfl)
theorem dX19_mayBe_10 : decode cX19_mayBe 10 = .ok (.aload_n 0, 1) := dk_42 (dk_at dksX19_mayBe_0 10 rfl rfl)
theorem dX19_mayBe_11 : decode cX19_mayBe 11 = .ok (.getfield 79, 3) := dk_180 0 79 (dk_at dksX19_mayBe_0 11 rfl rfl)
theorem dX19_mayBe_14 : decode cX19_mayBe 14 = .ok (.if_icmp .ge 37, 3) := dk_162 0 37 (dk_at dksX19_mayBe_0 14 rfl rfl)
theorem dX19_mayBe_17 : decode cX19_mayBe 17 = .ok (.aload_n 0, 1) := dk_42 (dk_at dksX19_mayBe_0 17 rfl rfl)
theorem dX19_mayBe_18 : decode cX19_mayBe 18 = .ok (.getfield 43, 3) := dk_180 0 43 (dk_at dksX19_mayBe_0 18 rfl rfl)
theorem dX19_mayBe_21 : decode cX19_mayBe 21 = .ok (.iload_n 3, 1) := dk_29 (dk_at dksX19_mayBe_0 21 rfl rfl)
theorem dX19_mayBe_22 : decode cX19_mayBe 22 = .ok (.iaload, 1) := dk_46 (dk_at dksX19_mayBe_0 22 rfl rfl)
theorem dX19_mayBe_23 : decode cX19_mayBe 23 = .ok (.iload_n 1, 1) := dk_27 (dk_at dksX19_mayBe_0 23 rfl rfl)
theorem dX19_mayBe_24 : decode cX19_mayBe 24 = .ok (.if_icmp .ne 21, 3) := dk_160 0 21 (dk_at dksX19_mayBe_1 0 rfl rfl)
theorem dX19_mayBe_27 : decode cX19_mayBe 27 = .ok (.aload_n 0, 1) := dk_42 (dk_at dksX19_mayBe_1 3 rfl rfl)
theorem dX19_mayBe_28 : decode cX19_mayBe 28 = .ok (.getfield 52, 3) := dk_180 0 52 (dk_at dksX19_mayBe_1 4 rfl rfl)
theorem dX19_mayBe_31 : decode cX19_mayBe 31 = .ok (.iload_n 3, 1) := dk_29 (dk_at dksX19_mayBe_1 7 rfl rfl)
theorem dX19_mayBe_32 : decode cX19_mayBe 32 = .ok (.laload, 1) := dk_47 (dk_at dksX19_mayBe_1 8 rfl rfl)
theorem dX19_mayBe_33 : decode cX19_mayBe 33 = .ok (.aload_n 0, 1) := dk_42 (dk_at dksX19_mayBe_1 9 rfl rfl)
theorem dX19_mayBe_34 : decode cX19_mayBe 34 = .ok (.getfield 30, 3) := dk_180 0 30 (dk_at dksX19_mayBe_1 10 rfl rfl)
theorem dX19_mayBe_37 : decode cX19_mayBe 37 = .ok (.iload_n 2, 1) := dk_28 (dk_at dksX19_mayBe_1 13 rfl rfl)
theorem dX19_mayBe_38 : decode cX19_mayBe 38 = .ok (.laload, 1) := dk_47 (dk_at dksX19_mayBe_1 14 rfl rfl)
theorem dX19_mayBe_39 : decode cX19_mayBe 39 = .ok (.lcmp, 1) := dk_148 (dk_at dksX19_mayBe_1 15 rfl rfl)
theorem dX19_mayBe_40 : decode cX19_mayBe 40 = .ok (.ifCond .eq 5, 3) := dk_153 0 5 (dk_at dksX19_mayBe_1 16 rfl rfl)
theorem dX19_mayBe_43 : decode cX19_mayBe 43 = .ok (.iconst 0, 1) := dk_3 (dk_at dksX19_mayBe_1 19 rfl rfl)
theorem dX19_mayBe_44 : decode cX19_mayBe 44 = .ok (.ireturn, 1) := dk_172 (dk_at dksX19_mayBe_1 20 rfl rfl)
theorem dX19_mayBe_45 : decode cX19_mayBe 45 = .ok (.iinc 3 1, 3) := dk_132 3 1 (dk_at dksX19_mayBe_1 21 rfl rfl)
theorem dX19_mayBe_48 : decode cX19_mayBe 48 = .ok (.goto (-39), 3) := dk_167 255 217 (dk_at dksX19_mayBe_2 0 rfl rfl)
theorem dX19_mayBe_51 : decode cX19_mayBe 51 = .ok (.iconst 0, 1) := dk_3 (dk_at dksX19_mayBe_2 3 rfl rfl)
theorem dX19_mayBe_52 : decode cX19_mayBe 52 = .ok (.istore_n 3, 1) := dk_62 (dk_at dksX19_mayBe_2 4 rfl rfl)
theorem dX19_mayBe_53 : decode cX19_mayBe 53 = .ok (.iload_n 3, 1) := dk_29 (dk_at dksX19_mayBe_2 5 rfl rfl)
theorem dX19_mayBe_54 : decode cX19_mayBe 54 = .ok (.aload_n 0, 1) := dk_42 (dk_at dksX19_mayBe_2 6 rfl rfl)
theorem dX19_mayBe_55 : decode cX19_mayBe 55 = .ok (.getfield 82, 3) := dk_180 0 82 (dk_at dksX19_mayBe_2 7 rfl rfl)
theorem dX19_mayBe_58 : decode cX19_mayBe 58 = .ok (.if_icmp .ge 36, 3) := dk_162 0 36 (dk_at dksX19_mayBe_2 10 rfl rfl)
theorem dX19_mayBe_61 : decode cX19_mayBe 61 = .ok (.aload_n 0, 1) := dk_42 (dk_at dksX19_mayBe_2 13 rfl rfl)
theorem dX19_mayBe_62 : decode cX19_mayBe 62 = .ok (.getfield 46, 3) := dk_180 0 46 (dk_at dksX19_mayBe_2 14 rfl rfl)
theorem dX19_mayBe_65 : decode cX19_mayBe 65 = .ok (.iload_n 3, 1) := dk_29 (dk_at dksX19_mayBe_2 17 rfl rfl)
theorem dX19_mayBe_66 : decode cX19_mayBe 66 = .ok (.iaload, 1) := dk_46 (dk_at dksX19_mayBe_2 18 rfl rfl)
theorem dX19_mayBe_67 : decode cX19_mayBe 67 = .ok (.iload_n 1, 1) := dk_27 (dk_at dksX19_mayBe_2 19 rfl rfl)
theorem dX19_mayBe_68 : decode cX19_mayBe 68 = .ok (.if_icmp .ne 20, 3) := dk_160 0 20 (dk_at dksX19_mayBe_2 20 rfl rfl)
theorem dX19_mayBe_71 : decode cX19_mayBe 71 = .ok (.aload_n 0, 1) := dk_42 (dk_at dksX19_mayBe_2 23 rfl rfl)
theorem dX19_mayBe_72 : decode cX19_mayBe 72 = .ok (.getfield 49, 3) := dk_180 0 49 (dk_at dksX19_mayBe_3 0 rfl rfl)
theorem dX19_mayBe_75 : decode cX19_mayBe 75 = .ok (.iload_n 3, 1) := dk_29 (dk_at dksX19_mayBe_3 3 rfl rfl)
theorem dX19_mayBe_76 : decode cX19_mayBe 76 = .ok (.iaload, 1) := dk_46 (dk_at dksX19_mayBe_3 4 rfl rfl)
theorem dX19_mayBe_77 : decode cX19_mayBe 77 = .ok (.aload_n 0, 1) := dk_42 (dk_at dksX19_mayBe_3 5 rfl rfl)
theorem dX19_mayBe_78 : decode cX19_mayBe 78 = .ok (.getfield 9, 3) := dk_180 0 9 (dk_at dksX19_mayBe_3 6 rfl rfl)
theorem dX19_mayBe_81 : decode cX19_mayBe 81 = .ok (.iload_n 2, 1) := dk_28 (dk_at dksX19_mayBe_3 9 rfl rfl)
theorem dX19_mayBe_82 : decode cX19_mayBe 82 = .ok (.iaload, 1) := dk_46 (dk_at dksX19_mayBe_3 10 rfl rfl)
theorem dX19_mayBe_83 : decode cX19_mayBe 83 = .ok (.if_icmp .le 5, 3) := dk_164 0 5 (dk_at dksX19_mayBe_3 11 rfl rfl)
theorem dX19_mayBe_86 : decode cX19_mayBe 86 = .ok (.iconst 0, 1) := dk_3 (dk_at dksX19_mayBe_3 14 rfl rfl)
theorem dX19_mayBe_87 : decode cX19_mayBe 87 = .ok (.ireturn, 1) := dk_172 (dk_at dksX19_mayBe_3 15 rfl rfl)
theorem dX19_mayBe_88 : decode cX19_mayBe 88 = .ok (.iinc 3 1, 3) := dk_132 3 1 (dk_at dksX19_mayBe_3 16 rfl rfl)
theorem dX19_mayBe_91 : decode cX19_mayBe 91 = .ok (.goto (-38), 3) := dk_167 255 218 (dk_at dksX19_mayBe_3 19 rfl rfl)
theorem dX19_mayBe_94 : decode cX19_mayBe 94 = .ok (.iconst 1, 1) := dk_4 (dk_at dksX19_mayBe_3 22 rfl rfl)
theorem dX19_mayBe_95 : decode cX19_mayBe 95 = .ok (.ireturn, 1) := dk_172 (dk_at dksX19_mayBe_3 23 rfl rfl)
theorem q137 : (Jvm.Cond.initialized "WrongRoomModel$Town") ∈ lw_all := lw_g (lw_at lw_m1 27 rfl) rfl
theorem q1538 : (Jvm.Cond.instantiable "WrongRoomModel$Town" (27 : Nat)) ∈ lw_all := lw_g (lw_at lw_m6 228 rfl) rfl
theorem q1540 : (Jvm.Cond.instanceMethod ({ cls := "WrongRoomModel$Town", name := "<init>", desc := "()V" } : Jvm.MethodName)) ∈ lw_all := lw_g (lw_at lw_m6 230 rfl) rfl
theorem q1541 : (Jvm.Cond.code ({ cls := "WrongRoomModel$Town", name := "<init>", desc := "()V" } : Jvm.MethodName) prog_20_method_1_code (1 : Nat) (Option.none : Option Jvm.ClassFile.FieldType)) ∈ lw_all := lw_g (lw_at lw_m6 231 rfl) rfl
theorem q1542 : (Jvm.Cond.methodLink "WrongRoomModel$Town" (3 : Nat) ({ cls := "java/lang/Object", name := "<init>", desc := "()V" } : Jvm.MethodName)) ∈ lw_all := lw_g (lw_at lw_m6 232 rfl) rfl
theorem q1545 : (Jvm.Cond.fieldLink "WrongRoomModel$Town" (68 : Nat) "WrongRoomModel$Town" "houses" "I") ∈ lw_all := lw_g (lw_at lw_m6 235 rfl) rfl
theorem q1551 : (Jvm.Cond.fieldLink "WrongRoomModel$Town" (79 : Nat) "WrongRoomModel$Town" "signs" "I") ∈ lw_all := lw_g (lw_at lw_m7 1 rfl) rfl
theorem q1553 : (Jvm.Cond.fieldLink "WrongRoomModel$Town" (82 : Nat) "WrongRoomModel$Town" "noises" "I") ∈ lw_all := lw_g (lw_at lw_m7 3 rfl) rfl
theorem q1555 : (Jvm.Cond.fieldLink "WrongRoomModel$Town" (64 : Nat) "WrongRoomModel$Town" "names" "I") ∈ lw_all := lw_g (lw_at lw_m7 5 rfl) rfl
theorem q1557 : (Jvm.Cond.fieldLink "WrongRoomModel$Town" (9 : Nat) "WrongRoomModel$Town" "rooms" "[I") ∈ lw_all := lw_g (lw_at lw_m7 7 rfl) rfl
theorem q1559 : (Jvm.Cond.fieldLink "WrongRoomModel$Town" (15 : Nat) "WrongRoomModel$Town" "rent" "[I") ∈ lw_all := lw_g (lw_at lw_m7 9 rfl) rfl
theorem q1561 : (Jvm.Cond.fieldLink "WrongRoomModel$Town" (18 : Nat) "WrongRoomModel$Town" "bill" "[I") ∈ lw_all := lw_g (lw_at lw_m7 11 rfl) rfl
theorem q1563 : (Jvm.Cond.fieldLink "WrongRoomModel$Town" (21 : Nat) "WrongRoomModel$Town" "wrong" "[I") ∈ lw_all := lw_g (lw_at lw_m7 13 rfl) rfl
theorem q1565 : (Jvm.Cond.fieldLink "WrongRoomModel$Town" (24 : Nat) "WrongRoomModel$Town" "opens" "[I") ∈ lw_all := lw_g (lw_at lw_m7 15 rfl) rfl
theorem q1567 : (Jvm.Cond.fieldLink "WrongRoomModel$Town" (27 : Nat) "WrongRoomModel$Town" "shuts" "[I") ∈ lw_all := lw_g (lw_at lw_m7 17 rfl) rfl
theorem q1569 : (Jvm.Cond.fieldLink "WrongRoomModel$Town" (30 : Nat) "WrongRoomModel$Town" "smell" "[J") ∈ lw_all := lw_g (lw_at lw_m7 19 rfl) rfl
theorem q1571 : (Jvm.Cond.fieldLink "WrongRoomModel$Town" (34 : Nat) "WrongRoomModel$Town" "minutes" "[I") ∈ lw_all := lw_g (lw_at lw_m7 21 rfl) rfl
theorem q1573 : (Jvm.Cond.fieldLink "WrongRoomModel$Town" (37 : Nat) "WrongRoomModel$Town" "home" "[I") ∈ lw_all := lw_g (lw_at lw_m7 23 rfl) rfl
theorem q1575 : (Jvm.Cond.fieldLink "WrongRoomModel$Town" (40 : Nat) "WrongRoomModel$Town" "at" "[I") ∈ lw_all := lw_g (lw_at lw_m7 25 rfl) rfl
theorem q1577 : (Jvm.Cond.fieldLink "WrongRoomModel$Town" (43 : Nat) "WrongRoomModel$Town" "signOf" "[I") ∈ lw_all := lw_g (lw_at lw_m7 27 rfl) rfl
theorem q1579 : (Jvm.Cond.fieldLink "WrongRoomModel$Town" (46 : Nat) "WrongRoomModel$Town" "noiseOf" "[I") ∈ lw_all := lw_g (lw_at lw_m7 29 rfl) rfl
theorem q1581 : (Jvm.Cond.fieldLink "WrongRoomModel$Town" (49 : Nat) "WrongRoomModel$Town" "noise" "[I") ∈ lw_all := lw_g (lw_at lw_m7 31 rfl) rfl
theorem q1583 : (Jvm.Cond.fieldLink "WrongRoomModel$Town" (52 : Nat) "WrongRoomModel$Town" "sign" "[J") ∈ lw_all := lw_g (lw_at lw_m7 33 rfl) rfl
theorem q1585 : (Jvm.Cond.fieldLink "WrongRoomModel$Town" (55 : Nat) "WrongRoomModel$Town" "name" "[J") ∈ lw_all := lw_g (lw_at lw_m7 35 rfl) rfl
theorem q1587 : (Jvm.Cond.fieldLink "WrongRoomModel$Town" (58 : Nat) "WrongRoomModel$Town" "nameSort" "[I") ∈ lw_all := lw_g (lw_at lw_m7 37 rfl) rfl
theorem q1589 : (Jvm.Cond.fieldLink "WrongRoomModel$Town" (61 : Nat) "WrongRoomModel$Town" "numberOf" "[I") ∈ lw_all := lw_g (lw_at lw_m7 39 rfl) rfl
theorem q1591 : (Jvm.Cond.lays "WrongRoomModel$Town" "WrongRoomModel$Town" "door" "I") ∈ lw_all := lw_g (lw_at lw_m7 41 rfl) rfl
theorem q1592 : (Jvm.Cond.soleField "WrongRoomModel$Town" "door") ∈ lw_all := lw_g (lw_at lw_m7 42 rfl) rfl
theorem q1593 : (Jvm.Cond.lays "WrongRoomModel$Town" "WrongRoomModel$Town" "like" "I") ∈ lw_all := lw_g (lw_at lw_m7 43 rfl) rfl
theorem q1594 : (Jvm.Cond.soleField "WrongRoomModel$Town" "like") ∈ lw_all := lw_g (lw_at lw_m7 44 rfl) rfl
theorem q1595 : (Jvm.Cond.lays "WrongRoomModel$Town" "WrongRoomModel$Town" "houses" "I") ∈ lw_all := lw_g (lw_at lw_m7 45 rfl) rfl
theorem q1596 : (Jvm.Cond.soleField "WrongRoomModel$Town" "houses") ∈ lw_all := lw_g (lw_at lw_m7 46 rfl) rfl
theorem q1597 : (Jvm.Cond.lays "WrongRoomModel$Town" "WrongRoomModel$Town" "known" "I") ∈ lw_all := lw_g (lw_at lw_m7 47 rfl) rfl
theorem q1598 : (Jvm.Cond.soleField "WrongRoomModel$Town" "known") ∈ lw_all := lw_g (lw_at lw_m7 48 rfl) rfl
theorem q1599 : (Jvm.Cond.lays "WrongRoomModel$Town" "WrongRoomModel$Town" "hours" "I") ∈ lw_all := lw_g (lw_at lw_m7 49 rfl) rfl
theorem q1600 : (Jvm.Cond.soleField "WrongRoomModel$Town" "hours") ∈ lw_all := lw_g (lw_at lw_m7 50 rfl) rfl
theorem q1601 : (Jvm.Cond.lays "WrongRoomModel$Town" "WrongRoomModel$Town" "streets" "I") ∈ lw_all := lw_g (lw_at lw_m7 51 rfl) rfl
theorem q1602 : (Jvm.Cond.soleField "WrongRoomModel$Town" "streets") ∈ lw_all := lw_g (lw_at lw_m7 52 rfl) rfl
theorem q1603 : (Jvm.Cond.lays "WrongRoomModel$Town" "WrongRoomModel$Town" "people" "I") ∈ lw_all := lw_g (lw_at lw_m7 53 rfl) rfl
theorem q1604 : (Jvm.Cond.soleField "WrongRoomModel$Town" "people") ∈ lw_all := lw_g (lw_at lw_m7 54 rfl) rfl
theorem q1605 : (Jvm.Cond.lays "WrongRoomModel$Town" "WrongRoomModel$Town" "signs" "I") ∈ lw_all := lw_g (lw_at lw_m7 55 rfl) rfl
theorem q1606 : (Jvm.Cond.soleField "WrongRoomModel$Town" "signs") ∈ lw_all := lw_g (lw_at lw_m7 56 rfl) rfl
theorem q1607 : (Jvm.Cond.lays "WrongRoomModel$Town" "WrongRoomModel$Town" "noises" "I") ∈ lw_all := lw_g (lw_at lw_m7 57 rfl) rfl
theorem q1608 : (Jvm.Cond.soleField "WrongRoomModel$Town" "noises") ∈ lw_all := lw_g (lw_at lw_m7 58 rfl) rfl
theorem q1609 : (Jvm.Cond.lays "WrongRoomModel$Town" "WrongRoomModel$Town" "names" "I") ∈ lw_all := lw_g (lw_at lw_m7 59 rfl) rfl
theorem q1610 : (Jvm.Cond.soleField "WrongRoomModel$Town" "names") ∈ lw_all := lw_g (lw_at lw_m7 60 rfl) rfl
theorem q1611 : (Jvm.Cond.laysFinal "WrongRoomModel$Town" "WrongRoomModel$Town" "rooms" "[I") ∈ lw_all := lw_g (lw_at lw_m7 61 rfl) rfl
theorem q1612 : (Jvm.Cond.soleField "WrongRoomModel$Town" "rooms") ∈ lw_all := lw_g (lw_at lw_m7 62 rfl) rfl
theorem q1613 : (Jvm.Cond.laysFinal "WrongRoomModel$Town" "WrongRoomModel$Town" "rent" "[I") ∈ lw_all := lw_g (lw_at lw_m7 63 rfl) rfl
theorem q1614 : (Jvm.Cond.soleField "WrongRoomModel$Town" "rent") ∈ lw_all := lw_g (lw_at lw_m7 64 rfl) rfl
theorem q1615 : (Jvm.Cond.laysFinal "WrongRoomModel$Town" "WrongRoomModel$Town" "bill" "[I") ∈ lw_all := lw_g (lw_at lw_m7 65 rfl) rfl
theorem q1616 : (Jvm.Cond.soleField "WrongRoomModel$Town" "bill") ∈ lw_all := lw_g (lw_at lw_m7 66 rfl) rfl
theorem q1617 : (Jvm.Cond.laysFinal "WrongRoomModel$Town" "WrongRoomModel$Town" "wrong" "[I") ∈ lw_all := lw_g (lw_at lw_m7 67 rfl) rfl
theorem q1618 : (Jvm.Cond.soleField "WrongRoomModel$Town" "wrong") ∈ lw_all := lw_g (lw_at lw_m7 68 rfl) rfl
theorem q1619 : (Jvm.Cond.laysFinal "WrongRoomModel$Town" "WrongRoomModel$Town" "opens" "[I") ∈ lw_all := lw_g (lw_at lw_m7 69 rfl) rfl
theorem q1620 : (Jvm.Cond.soleField "WrongRoomModel$Town" "opens") ∈ lw_all := lw_g (lw_at lw_m7 70 rfl) rfl
theorem q1621 : (Jvm.Cond.laysFinal "WrongRoomModel$Town" "WrongRoomModel$Town" "shuts" "[I") ∈ lw_all := lw_g (lw_at lw_m7 71 rfl) rfl
theorem q1622 : (Jvm.Cond.soleField "WrongRoomModel$Town" "shuts") ∈ lw_all := lw_g (lw_at lw_m7 72 rfl) rfl
theorem q1623 : (Jvm.Cond.laysFinal "WrongRoomModel$Town" "WrongRoomModel$Town" "smell" "[J") ∈ lw_all := lw_g (lw_at lw_m7 73 rfl) rfl
theorem q1624 : (Jvm.Cond.soleField "WrongRoomModel$Town" "smell") ∈ lw_all := lw_g (lw_at lw_m7 74 rfl) rfl
theorem q1625 : (Jvm.Cond.laysFinal "WrongRoomModel$Town" "WrongRoomModel$Town" "minutes" "[I") ∈ lw_all := lw_g (lw_at lw_m7 75 rfl) rfl
theorem q1626 : (Jvm.Cond.soleField "WrongRoomModel$Town" "minutes") ∈ lw_all := lw_g (lw_at lw_m7 76 rfl) rfl
theorem q1627 : (Jvm.Cond.laysFinal "WrongRoomModel$Town" "WrongRoomModel$Town" "home" "[I") ∈ lw_all := lw_g (lw_at lw_m7 77 rfl) rfl
theorem q1628 : (Jvm.Cond.soleField "WrongRoomModel$Town" "home") ∈ lw_all := lw_g (lw_at lw_m7 78 rfl) rfl
theorem q1629 : (Jvm.Cond.laysFinal "WrongRoomModel$Town" "WrongRoomModel$Town" "at" "[I") ∈ lw_all := lw_g (lw_at lw_m7 79 rfl) rfl
theorem q1630 : (Jvm.Cond.soleField "WrongRoomModel$Town" "at") ∈ lw_all := lw_g (lw_at lw_m7 80 rfl) rfl
theorem q1631 : (Jvm.Cond.laysFinal "WrongRoomModel$Town" "WrongRoomModel$Town" "signOf" "[I") ∈ lw_all := lw_g (lw_at lw_m7 81 rfl) rfl
theorem q1632 : (Jvm.Cond.soleField "WrongRoomModel$Town" "signOf") ∈ lw_all := lw_g (lw_at lw_m7 82 rfl) rfl
theorem q1633 : (Jvm.Cond.laysFinal "WrongRoomModel$Town" "WrongRoomModel$Town" "noiseOf" "[I") ∈ lw_all := lw_g (lw_at lw_m7 83 rfl) rfl
theorem q1634 : (Jvm.Cond.soleField "WrongRoomModel$Town" "noiseOf") ∈ lw_all := lw_g (lw_at lw_m7 84 rfl) rfl
theorem q1635 : (Jvm.Cond.laysFinal "WrongRoomModel$Town" "WrongRoomModel$Town" "noise" "[I") ∈ lw_all := lw_g (lw_at lw_m7 85 rfl) rfl
theorem q1636 : (Jvm.Cond.soleField "WrongRoomModel$Town" "noise") ∈ lw_all := lw_g (lw_at lw_m7 86 rfl) rfl
theorem q1637 : (Jvm.Cond.laysFinal "WrongRoomModel$Town" "WrongRoomModel$Town" "sign" "[J") ∈ lw_all := lw_g (lw_at lw_m7 87 rfl) rfl
theorem q1638 : (Jvm.Cond.soleField "WrongRoomModel$Town" "sign") ∈ lw_all := lw_g (lw_at lw_m7 88 rfl) rfl
theorem q1639 : (Jvm.Cond.laysFinal "WrongRoomModel$Town" "WrongRoomModel$Town" "name" "[J") ∈ lw_all := lw_g (lw_at lw_m7 89 rfl) rfl
theorem q1640 : (Jvm.Cond.soleField "WrongRoomModel$Town" "name") ∈ lw_all := lw_g (lw_at lw_m7 90 rfl) rfl
theorem q1641 : (Jvm.Cond.laysFinal "WrongRoomModel$Town" "WrongRoomModel$Town" "nameSort" "[I") ∈ lw_all := lw_g (lw_at lw_m7 91 rfl) rfl
theorem q1642 : (Jvm.Cond.soleField "WrongRoomModel$Town" "nameSort") ∈ lw_all := lw_g (lw_at lw_m7 92 rfl) rfl
theorem q1643 : (Jvm.Cond.laysFinal "WrongRoomModel$Town" "WrongRoomModel$Town" "numberOf" "[I") ∈ lw_all := lw_g (lw_at lw_m7 93 rfl) rfl
theorem q1644 : (Jvm.Cond.soleField "WrongRoomModel$Town" "numberOf") ∈ lw_all := lw_g (lw_at lw_m7 94 rfl) rfl
theorem q1645 : (Jvm.Cond.superclass "WrongRoomModel$Town" "java/lang/Object") ∈ lw_all := lw_g (lw_at lw_m7 95 rfl) rfl
theorem q1755 : (Jvm.Cond.instanceMethod ({ cls := "WrongRoomModel$Town", name := "find", desc := "(J)I" } : Jvm.MethodName)) ∈ lw_all := lw_g (lw_at lw_m7 205 rfl) rfl
theorem q1756 : (Jvm.Cond.selects "WrongRoomModel$Town" ({ cls := "WrongRoomModel$Town", name := "find", desc := "(J)I" } : Jvm.MethodName) ({ cls := "WrongRoomModel$Town", name := "find", desc := "(J)I" } : Jvm.MethodName)) ∈ lw_all := lw_g (lw_at lw_m7 206 rfl) rfl
theorem q1757 : (Jvm.Cond.code ({ cls := "WrongRoomModel$Town", name := "find", desc := "(J)I" } : Jvm.MethodName) prog_20_method_2_code (4 : Nat) (Option.some Jvm.ClassFile.FieldType.int)) ∈ lw_all := lw_g (lw_at lw_m7 207 rfl) rfl
theorem q1780 : (Jvm.Cond.instanceMethod ({ cls := "WrongRoomModel$Town", name := "isOf", desc := "(I)Z" } : Jvm.MethodName)) ∈ lw_all := lw_g (lw_at lw_m7 230 rfl) rfl
theorem q1781 : (Jvm.Cond.selects "WrongRoomModel$Town" ({ cls := "WrongRoomModel$Town", name := "isOf", desc := "(I)Z" } : Jvm.MethodName) ({ cls := "WrongRoomModel$Town", name := "isOf", desc := "(I)Z" } : Jvm.MethodName)) ∈ lw_all := lw_g (lw_at lw_m7 231 rfl) rfl
theorem q1782 : (Jvm.Cond.code ({ cls := "WrongRoomModel$Town", name := "isOf", desc := "(I)Z" } : Jvm.MethodName) prog_20_method_3_code (3 : Nat) (Option.some Jvm.ClassFile.FieldType.boolean)) ∈ lw_all := lw_g (lw_at lw_m7 232 rfl) rfl
theorem q1788 : (Jvm.Cond.instanceMethod ({ cls := "WrongRoomModel$Town", name := "isTimed", desc := "(I)Z" } : Jvm.MethodName)) ∈ lw_all := lw_g (lw_at lw_m7 238 rfl) rfl
theorem q1789 : (Jvm.Cond.selects "WrongRoomModel$Town" ({ cls := "WrongRoomModel$Town", name := "isTimed", desc := "(I)Z" } : Jvm.MethodName) ({ cls := "WrongRoomModel$Town", name := "isTimed", desc := "(I)Z" } : Jvm.MethodName)) ∈ lw_all := lw_g (lw_at lw_m7 239 rfl) rfl
theorem q1790 : (Jvm.Cond.code ({ cls := "WrongRoomModel$Town", name := "isTimed", desc := "(I)Z" } : Jvm.MethodName) prog_20_method_4_code (2 : Nat) (Option.some Jvm.ClassFile.FieldType.boolean)) ∈ lw_all := lw_g (lw_at lw_m8 0 rfl) rfl
theorem q1865 : (Jvm.Cond.instanceMethod ({ cls := "WrongRoomModel$Town", name := "isHour", desc := "(II)Z" } : Jvm.MethodName)) ∈ lw_all := lw_g (lw_at lw_m8 75 rfl) rfl
theorem q1866 : (Jvm.Cond.selects "WrongRoomModel$Town" ({ cls := "WrongRoomModel$Town", name := "isHour", desc := "(II)Z" } : Jvm.MethodName) ({ cls := "WrongRoomModel$Town", name := "isHour", desc := "(II)Z" } : Jvm.MethodName)) ∈ lw_all := lw_g (lw_at lw_m8 76 rfl) rfl
theorem q1867 : (Jvm.Cond.code ({ cls := "WrongRoomModel$Town", name := "isHour", desc := "(II)Z" } : Jvm.MethodName) prog_20_method_5_code (3 : Nat) (Option.some Jvm.ClassFile.FieldType.boolean)) ∈ lw_all := lw_g (lw_at lw_m8 77 rfl) rfl
theorem q1868 : (Jvm.Cond.methodLink "WrongRoomModel$Town" (71 : Nat) ({ cls := "WrongRoomModel$Town", name := "isTimed", desc := "(I)Z" } : Jvm.MethodName)) ∈ lw_all := lw_g (lw_at lw_m8 78 rfl) rfl
theorem q1869 : (Jvm.Cond.methodLinkNest "WrongRoomModel$Town" (75 : Nat) ({ cls := "WrongRoomModel", name := "in", desc := "(III)Z" } : Jvm.MethodName) "WrongRoomModel") ∈ lw_tbl := lw_at lw_m8 79 rfl
theorem q1966 : (Jvm.Cond.instanceMethod ({ cls := "WrongRoomModel$Town", name := "mayBe", desc := "(II)Z" } : Jvm.MethodName)) ∈ lw_all := lw_g (lw_at lw_m8 176 rfl) rfl
theorem q1967 : (Jvm.Cond.selects "WrongRoomModel$Town" ({ cls := "WrongRoomModel$Town", name := "mayBe", desc := "(II)Z" } : Jvm.MethodName) ({ cls := "WrongRoomModel$Town", name := "mayBe", desc := "(II)Z" } : Jvm.MethodName)) ∈ lw_all := lw_g (lw_at lw_m8 177 rfl) rfl
theorem q1968 : (Jvm.Cond.code ({ cls := "WrongRoomModel$Town", name := "mayBe", desc := "(II)Z" } : Jvm.MethodName) prog_20_method_6_code (4 : Nat) (Option.some Jvm.ClassFile.FieldType.boolean)) ∈ lw_all := lw_g (lw_at lw_m8 178 rfl) rfl
theorem q2185 : (Jvm.Cond.castable "WrongRoomModel$Town" "java/lang/Object") ∈ lw_tbl := lw_at lw_m9 155 rfl
theorem in_X19 : ∀ w ∈ wsX190, w ∈ lw_all := lw_in wsX190 [1591, 1593, 1595, 1597, 1599, 1601, 1603, 1605, 1607, 1609, 1611, 1613, 1615, 1617, 1619, 1621, 1623, 1625, 1627, 1629, 1631, 1633, 1635, 1637, 1639, 1641, 1643] (by decide +kernel) (by decide +kernel)
/-! java/lang/Math -/
set_option maxRecDepth 100000
def RJ8 : String := "java/lang/Math"
abbrev cJ8_min : ByteArray := prog_25_method_69_code
def yJ8_min : MethodName := ⟨RJ8, "min", "(II)I"⟩
def dkwJ8_min_0 : List UInt8 := [26, 27, 163, 0, 7, 26, 167, 0, 4, 27, 172]
abbrev dktJ8_min_0 : List UInt8 := dkwJ8_min_0 ++ []
theorem dksJ8_min_0 : cJ8_min.data.toList.drop 0 = dktJ8_min_0 := by decide +kernel
theorem dJ8_min_0 : decode cJ8_min 0 = .ok (.iload_n 0, 1) := dk_26 (dk_at dksJ8_min_0 0 rfl rfl)
theorem dJ8_min_1 : decode cJ8_min 1 = .ok (.iload_n 1, 1) := dk_27 (dk_at dksJ8_min_0 1 rfl rfl)
theorem dJ8_min_2 : decode cJ8_min 2 = .ok (.if_icmp .gt 7, 3) := dk_163 0 7 (dk_at dksJ8_min_0 2 rfl rfl)
theorem dJ8_min_5 : decode cJ8_min 5 = .ok (.iload_n 0, 1) := dk_26 (dk_at dksJ8_min_0 5 rfl rfl)
theorem dJ8_min_6 : decode cJ8_min 6 = .ok (.goto 4, 3) := dk_167 0 4 (dk_at dksJ8_min_0 6 rfl rfl)
theorem dJ8_min_9 : decode cJ8_min 9 = .ok (.iload_n 1, 1) := dk_27 (dk_at dksJ8_min_0 9 rfl rfl)
theorem dJ8_min_10 : decode cJ8_min 10 = .ok (.ireturn, 1) := dk_172 (dk_at dksJ8_min_0 10 rfl rfl)
abbrev cJ8_max : ByteArray := prog_25_method_65_code
def yJ8_max : MethodName := ⟨RJ8, "max", "(II)I"⟩
def dkwJ8_max_0 : List UInt8 := [26, 27, 161, 0, 7, 26, 167, 0, 4, 27, 172]
abbrev dktJ8_max_0 : List UInt8 := dkwJ8_max_0 ++ []
theorem dksJ8_max_0 : cJ8_max.data.toList.drop 0 = dktJ8_max_0 := by decide +kernel
theorem dJ8_max_0 : decode cJ8_max 0 = .ok (.iload_n 0, 1) := dk_26 (dk_at dksJ8_max_0 0 rfl rfl)
theorem dJ8_max_1 : decode cJ8_max 1 = .ok (.iload_n 1, 1) := dk_27 (dk_at dksJ8_max_0 1 rfl rfl)
theorem dJ8_max_2 : decode cJ8_max 2 = .ok (.if_icmp .lt 7, 3) := dk_161 0 7 (dk_at dksJ8_max_0 2 rfl rfl)
theorem dJ8_max_5 : decode cJ8_max 5 = .ok (.iload_n 0, 1) := dk_26 (dk_at dksJ8_max_0 5 rfl rfl)
theorem dJ8_max_6 : decode cJ8_max 6 = .ok (.goto 4, 3) := dk_167 0 4 (dk_at dksJ8_max_0 6 rfl rfl)
theorem dJ8_max_9 : decode cJ8_max 9 = .ok (.iload_n 1, 1) := dk_27 (dk_at dksJ8_max_0 9 rfl rfl)
theorem dJ8_max_10 : decode cJ8_max 10 = .ok (.ireturn, 1) := dk_172 (dk_at dksJ8_max_0 10 rfl rfl)
abbrev cJ8_abs : ByteArray := prog_25_method_61_code
def yJ8_abs : MethodName := ⟨RJ8, "abs", "(J)J"⟩
def dkwJ8_abs_0 : List UInt8 := [30, 9, 148, 156, 0, 8, 30, 117, 167, 0, 4, 30, 173]
abbrev dktJ8_abs_0 : List UInt8 := dkwJ8_abs_0 ++ []
theorem dksJ8_abs_0 : cJ8_abs.data.toList.drop 0 = dktJ8_abs_0 := by decide +kernel
theorem dJ8_abs_0 : decode cJ8_abs 0 = .ok (.lload_n 0, 1) := dk_30 (dk_at dksJ8_abs_0 0 rfl rfl)
theorem dJ8_abs_1 : decode cJ8_abs 1 = .ok (.lconst 0, 1) := dk_9 (dk_at dksJ8_abs_0 1 rfl rfl)
theorem dJ8_abs_2 : decode cJ8_abs 2 = .ok (.lcmp, 1) := dk_148 (dk_at dksJ8_abs_0 2 rfl rfl)
theorem dJ8_abs_3 : decode cJ8_abs 3 = .ok (.ifCond .ge 8, 3) := dk_156 0 8 (dk_at dksJ8_abs_0 3 rfl rfl)
theorem dJ8_abs_6 : decode cJ8_abs 6 = .ok (.lload_n 0, 1) := dk_30 (dk_at dksJ8_abs_0 6 rfl rfl)
theorem dJ8_abs_7 : decode cJ8_abs 7 = .ok (.lneg, 1) := dk_117 (dk_at dksJ8_abs_0 7 rfl rfl)
theorem dJ8_abs_8 : decode cJ8_abs 8 = .ok (.goto 4, 3) := dk_167 0 4 (dk_at dksJ8_abs_0 8 rfl rfl)
theorem dJ8_abs_11 : decode cJ8_abs 11 = .ok (.lload_n 0, 1) := dk_30 (dk_at dksJ8_abs_0 11 rfl rfl)
theorem dJ8_abs_12 : decode cJ8_abs 12 = .ok (.lreturn, 1) := dk_173 (dk_at dksJ8_abs_0 12 rfl rfl)
abbrev cJ8_abs_2 : ByteArray := prog_25_method_59_code
def yJ8_abs_2 : MethodName := ⟨RJ8, "abs", "(I)I"⟩
def dkwJ8_abs_2_0 : List UInt8 := [26, 156, 0, 8, 26, 116, 167, 0, 4, 26, 172]
abbrev dktJ8_abs_2_0 : List UInt8 := dkwJ8_abs_2_0 ++ []
theorem dksJ8_abs_2_0 : cJ8_abs_2.data.toList.drop 0 = dktJ8_abs_2_0 := by decide +kernel
theorem dJ8_abs_2_0 : decode cJ8_abs_2 0 = .ok (.iload_n 0, 1) := dk_26 (dk_at dksJ8_abs_2_0 0 rfl rfl)
theorem dJ8_abs_2_1 : decode cJ8_abs_2 1 = .ok (.ifCond .ge 8, 3) := dk_156 0 8 (dk_at dksJ8_abs_2_0 1 rfl rfl)
theorem dJ8_abs_2_4 : decode cJ8_abs_2 4 = .ok (.iload_n 0, 1) := dk_26 (dk_at dksJ8_abs_2_0 4 rfl rfl)
theorem dJ8_abs_2_5 : decode cJ8_abs_2 5 = .ok (.ineg, 1) := dk_116 (dk_at dksJ8_abs_2_0 5 rfl rfl)
theorem dJ8_abs_2_6 : decode cJ8_abs_2 6 = .ok (.goto 4, 3) := dk_167 0 4 (dk_at dksJ8_abs_2_0 6 rfl rfl)
theorem dJ8_abs_2_9 : decode cJ8_abs_2 9 = .ok (.iload_n 0, 1) := dk_26 (dk_at dksJ8_abs_2_0 9 rfl rfl)
theorem dJ8_abs_2_10 : decode cJ8_abs_2 10 = .ok (.ireturn, 1) := dk_172 (dk_at dksJ8_abs_2_0 10 rfl rfl)
theorem q139 : (Jvm.Cond.initialized "java/lang/Math") ∈ lw_all := lw_g (lw_at lw_m1 29 rfl) rfl
theorem q1089 : (Jvm.Cond.static ({ cls := "java/lang/Math", name := "min", desc := "(II)I" } : Jvm.MethodName)) ∈ lw_all := lw_g (lw_at lw_m5 19 rfl) rfl
theorem q1090 : (Jvm.Cond.code ({ cls := "java/lang/Math", name := "min", desc := "(II)I" } : Jvm.MethodName) prog_25_method_69_code (2 : Nat) (Option.some Jvm.ClassFile.FieldType.int)) ∈ lw_all := lw_g (lw_at lw_m5 20 rfl) rfl
theorem q1178 : (Jvm.Cond.static ({ cls := "java/lang/Math", name := "max", desc := "(II)I" } : Jvm.MethodName)) ∈ lw_all := lw_g (lw_at lw_m5 108 rfl) rfl
theorem q1179 : (Jvm.Cond.code ({ cls := "java/lang/Math", name := "max", desc := "(II)I" } : Jvm.MethodName) prog_25_method_65_code (2 : Nat) (Option.some Jvm.ClassFile.FieldType.int)) ∈ lw_all := lw_g (lw_at lw_m5 109 rfl) rfl
theorem q1192 : (Jvm.Cond.static ({ cls := "java/lang/Math", name := "abs", desc := "(J)J" } : Jvm.MethodName)) ∈ lw_all := lw_g (lw_at lw_m5 122 rfl) rfl
theorem q1193 : (Jvm.Cond.code ({ cls := "java/lang/Math", name := "abs", desc := "(J)J" } : Jvm.MethodName) prog_25_method_61_code (2 : Nat) (Option.some Jvm.ClassFile.FieldType.long)) ∈ lw_all := lw_g (lw_at lw_m5 123 rfl) rfl
theorem q1274 : (Jvm.Cond.static ({ cls := "java/lang/Math", name := "abs", desc := "(I)I" } : Jvm.MethodName)) ∈ lw_all := lw_g (lw_at lw_m5 204 rfl) rfl
theorem q1275 : (Jvm.Cond.code ({ cls := "java/lang/Math", name := "abs", desc := "(I)I" } : Jvm.MethodName) prog_25_method_59_code (1 : Nat) (Option.some Jvm.ClassFile.FieldType.int)) ∈ lw_all := lw_g (lw_at lw_m5 205 rfl) rfl
/-! java/util/NoSuchElementException -/
set_option maxRecDepth 100000
def RJ9 : String := "java/util/NoSuchElementException"
def TJ9 : u_T := fun k => match k with
  | 0 => ("java/lang/Throwable", "cause", "Ljava/lang/Throwable;", false)
  | 1 => ("java/lang/Throwable", "stackTrace", "[Ljava/lang/StackTraceElement;", false)
  | 2 => ("java/lang/Throwable", "suppressedExceptions", "Ljava/util/List;", false)
  | 3 => ("java/lang/Throwable", "detailMessage", "Ljava/lang/String;", false)
  | 4 => ("java/lang/Throwable", "backtrace", "Ljava/lang/Object;", false)
  | _ => ("java/lang/Throwable", "depth", "I", false)
def tyJ9 : Nat → FieldType := fun k => match k with
  | 0 => .object "java/lang/Throwable"
  | 1 => .array (.object "java/lang/StackTraceElement")
  | 2 => .object "java/util/List"
  | 3 => .object "java/lang/String"
  | 4 => .object "java/lang/Object"
  | _ => .int
abbrev wsJ90 : List Cond := u_ws RJ9 TJ9 6
theorem nmJ9 : ∀ a, a < 6 → ∀ b, b < 6 → a ≠ b → (TJ9 a).2.1 ≠ (TJ9 b).2.1 := by decide +kernel
theorem tyJ9_ok : ∀ k, k < 6 → parseFieldDescriptor (TJ9 k).2.2.1 = some (tyJ9 k) := by decide +kernel
abbrev cJ9_init : ByteArray := prog_35_method_1_code
def yJ9_init : MethodName := ⟨RJ9, "<init>", "()V"⟩
theorem dJ9_init_0 : decode cJ9_init 0 = .ok (.aload_n 0, 1) := by decide +kernel
theorem dJ9_init_1 : decode cJ9_init 1 = .ok (.invokespecial 1, 3) := by decide +kernel
theorem dJ9_init_4 : decode cJ9_init 4 = .ok (.return_, 1) := by decide +kernel
theorem q140 : (Jvm.Cond.initialized "java/util/NoSuchElementException") ∈ lw_all := lw_g (lw_at lw_m1 30 rfl) rfl
theorem q188 : (Jvm.Cond.selects "java/util/NoSuchElementException" ({ cls := "java/lang/Throwable", name := "fillInStackTrace", desc := "()Ljava/lang/Throwable;" } : Jvm.MethodName) ({ cls := "java/lang/Throwable", name := "fillInStackTrace", desc := "()Ljava/lang/Throwable;" } : Jvm.MethodName)) ∈ lw_all := lw_g (lw_at lw_m1 78 rfl) rfl
theorem q1377 : (Jvm.Cond.instantiable "java/util/NoSuchElementException" (6 : Nat)) ∈ lw_all := lw_g (lw_at lw_m6 67 rfl) rfl
theorem q1378 : (Jvm.Cond.castable "java/util/NoSuchElementException" "java/util/NoSuchElementException") ∈ lw_tbl := lw_at lw_m6 68 rfl
theorem q1379 : (Jvm.Cond.selects "java/util/NoSuchElementException" ({ cls := "java/lang/Throwable", name := "fillInStackTrace", desc := "(I)Ljava/lang/Throwable;" } : Jvm.MethodName) ({ cls := "java/lang/Throwable", name := "fillInStackTrace", desc := "(I)Ljava/lang/Throwable;" } : Jvm.MethodName)) ∈ lw_all := lw_g (lw_at lw_m6 69 rfl) rfl
theorem q1380 : (Jvm.Cond.lays "java/util/NoSuchElementException" "java/lang/Throwable" "cause" "Ljava/lang/Throwable;") ∈ lw_all := lw_g (lw_at lw_m6 70 rfl) rfl
theorem q1381 : (Jvm.Cond.lays "java/util/NoSuchElementException" "java/lang/Throwable" "stackTrace" "[Ljava/lang/StackTraceElement;") ∈ lw_all := lw_g (lw_at lw_m6 71 rfl) rfl
theorem q1382 : (Jvm.Cond.lays "java/util/NoSuchElementException" "java/lang/Throwable" "suppressedExceptions" "Ljava/util/List;") ∈ lw_all := lw_g (lw_at lw_m6 72 rfl) rfl
theorem q1383 : (Jvm.Cond.lays "java/util/NoSuchElementException" "java/lang/Throwable" "detailMessage" "Ljava/lang/String;") ∈ lw_all := lw_g (lw_at lw_m6 73 rfl) rfl
theorem q1384 : (Jvm.Cond.lays "java/util/NoSuchElementException" "java/lang/Throwable" "backtrace" "Ljava/lang/Object;") ∈ lw_all := lw_g (lw_at lw_m6 74 rfl) rfl
theorem q1386 : (Jvm.Cond.instanceMethod ({ cls := "java/util/NoSuchElementException", name := "<init>", desc := "()V" } : Jvm.MethodName)) ∈ lw_all := lw_g (lw_at lw_m6 76 rfl) rfl
theorem q1387 : (Jvm.Cond.code ({ cls := "java/util/NoSuchElementException", name := "<init>", desc := "()V" } : Jvm.MethodName) prog_35_method_1_code (1 : Nat) (Option.none : Option Jvm.ClassFile.FieldType)) ∈ lw_all := lw_g (lw_at lw_m6 77 rfl) rfl
theorem q1388 : (Jvm.Cond.methodLink "java/util/NoSuchElementException" (1 : Nat) ({ cls := "java/lang/RuntimeException", name := "<init>", desc := "()V" } : Jvm.MethodName)) ∈ lw_all := lw_g (lw_at lw_m6 78 rfl) rfl
theorem q1395 : (Jvm.Cond.lays "java/util/NoSuchElementException" "java/lang/Throwable" "depth" "I") ∈ lw_all := lw_g (lw_at lw_m6 85 rfl) rfl
theorem q1396 : (Jvm.Cond.superclass "java/util/NoSuchElementException" "java/lang/RuntimeException") ∈ lw_all := lw_g (lw_at lw_m6 86 rfl) rfl
theorem q2186 : (Jvm.Cond.castable "java/util/NoSuchElementException" "java/lang/Object") ∈ lw_tbl := lw_at lw_m9 156 rfl
theorem in_J9 : ∀ w ∈ wsJ90, w ∈ lw_all := lw_in wsJ90 [1380, 1381, 1382, 1383, 1384, 1395] (by decide +kernel) (by decide +kernel)
/-! java/lang/Object -/
set_option maxRecDepth 100000
def RJ10 : String := "java/lang/Object"
abbrev cJ10_init : ByteArray := object_method_1_code
def yJ10_init : MethodName := ⟨RJ10, "<init>", "()V"⟩
theorem dJ10_init_0 : decode cJ10_init 0 = .ok (.return_, 1) := by decide +kernel
theorem q147 : (Jvm.Cond.instanceMethod ({ cls := "java/lang/Object", name := "<init>", desc := "()V" } : Jvm.MethodName)) ∈ lw_all := lw_g (lw_at lw_m1 37 rfl) rfl
theorem q148 : (Jvm.Cond.code ({ cls := "java/lang/Object", name := "<init>", desc := "()V" } : Jvm.MethodName) object_method_1_code (1 : Nat) (Option.none : Option Jvm.ClassFile.FieldType)) ∈ lw_all := lw_g (lw_at lw_m1 38 rfl) rfl
/-! java/lang/System$2 -/
set_option maxRecDepth 100000
def RJ11 : String := "java/lang/System$2"
abbrev cJ11_getUTF16Char : ByteArray := prog_31_method_45_code
def yJ11_getUTF16Char : MethodName := ⟨RJ11, "getUTF16Char", "([BI)C"⟩
def dkwJ11_getUTF16Char_0 : List UInt8 := [43, 28, 184, 0, 185, 172]
abbrev dktJ11_getUTF16Char_0 : List UInt8 := dkwJ11_getUTF16Char_0 ++ []
theorem dksJ11_getUTF16Char_0 : cJ11_getUTF16Char.data.toList.drop 0 = dktJ11_getUTF16Char_0 := by decide +kernel
theorem dJ11_getUTF16Char_0 : decode cJ11_getUTF16Char 0 = .ok (.aload_n 1, 1) := dk_43 (dk_at dksJ11_getUTF16Char_0 0 rfl rfl)
theorem dJ11_getUTF16Char_1 : decode cJ11_getUTF16Char 1 = .ok (.iload_n 2, 1) := dk_28 (dk_at dksJ11_getUTF16Char_0 1 rfl rfl)
theorem dJ11_getUTF16Char_2 : decode cJ11_getUTF16Char 2 = .ok (.invokestatic 185, 3) := dk_184 0 185 (dk_at dksJ11_getUTF16Char_0 2 rfl rfl)
theorem dJ11_getUTF16Char_5 : decode cJ11_getUTF16Char 5 = .ok (.ireturn, 1) := dk_172 (dk_at dksJ11_getUTF16Char_0 5 rfl rfl)
theorem q702 : (Jvm.Cond.castable "java/lang/System$2" "jdk/internal/access/JavaLangAccess") ∈ lw_tbl := lw_at lw_m3 112 rfl
theorem q703 : (Jvm.Cond.selects "java/lang/System$2" ({ cls := "jdk/internal/access/JavaLangAccess", name := "getUTF16Char", desc := "([BI)C" } : Jvm.MethodName) ({ cls := "java/lang/System$2", name := "getUTF16Char", desc := "([BI)C" } : Jvm.MethodName)) ∈ lw_all := lw_g (lw_at lw_m3 113 rfl) rfl
theorem q704 : (Jvm.Cond.unhidden "java/lang/System$2" "getUTF16Char" "([BI)C") ∈ lw_tbl := lw_at lw_m3 114 rfl
theorem q705 : (Jvm.Cond.instanceMethod ({ cls := "java/lang/System$2", name := "getUTF16Char", desc := "([BI)C" } : Jvm.MethodName)) ∈ lw_all := lw_g (lw_at lw_m3 115 rfl) rfl
theorem q706 : (Jvm.Cond.publicMethod ({ cls := "java/lang/System$2", name := "getUTF16Char", desc := "([BI)C" } : Jvm.MethodName)) ∈ lw_tbl := lw_at lw_m3 116 rfl
theorem q707 : (Jvm.Cond.code ({ cls := "java/lang/System$2", name := "getUTF16Char", desc := "([BI)C" } : Jvm.MethodName) prog_31_method_45_code (3 : Nat) (Option.some Jvm.ClassFile.FieldType.char)) ∈ lw_all := lw_g (lw_at lw_m3 117 rfl) rfl
theorem q708 : (Jvm.Cond.methodLink "java/lang/System$2" (185 : Nat) ({ cls := "java/lang/StringUTF16", name := "getChar", desc := "([BI)C" } : Jvm.MethodName)) ∈ lw_all := lw_g (lw_at lw_m3 118 rfl) rfl
theorem q2180 : (Jvm.Cond.castable "java/lang/System$2" "java/lang/Object") ∈ lw_tbl := lw_at lw_m9 150 rfl
theorem q228 : (Jvm.Cond.arrayClass Jvm.ClassFile.FieldType.byte) ∈ lw_all := lw_g (lw_at lw_m1 118 rfl) rfl
set_option maxRecDepth 100000
theorem q263 : (Jvm.Cond.arrayClass Jvm.ClassFile.FieldType.char) ∈ lw_all := lw_g (lw_at lw_m1 153 rfl) rfl
theorem q292 : (Jvm.Cond.arrayClass Jvm.ClassFile.FieldType.int) ∈ lw_all := lw_g (lw_at lw_m1 182 rfl) rfl
theorem q377 : (Jvm.Cond.arrayOver (Jvm.ClassFile.FieldType.object "WrongRoom$Rooms")) ∈ lw_tbl := lw_at lw_m2 27 rfl
theorem q499 : (Jvm.Cond.arrayOver (Jvm.ClassFile.FieldType.object "WrongRoom$House")) ∈ lw_tbl := lw_at lw_m2 149 rfl
theorem q501 : (Jvm.Cond.arrayOver (Jvm.ClassFile.FieldType.object "WrongRoom$Person")) ∈ lw_tbl := lw_at lw_m2 151 rfl
theorem q503 : (Jvm.Cond.arrayOver (Jvm.ClassFile.FieldType.object "WrongRoom$Notice")) ∈ lw_tbl := lw_at lw_m2 153 rfl
theorem q1646 : (Jvm.Cond.arrayClass Jvm.ClassFile.FieldType.long) ∈ lw_all := lw_g (lw_at lw_m7 96 rfl) rfl
theorem q2190 : (Jvm.Cond.arrayClass Jvm.ClassFile.FieldType.short) ∈ lw_all := lw_g (lw_at lw_m9 160 rfl) rfl
theorem q138 : (Jvm.Cond.initialized "java/lang/System") ∈ lw_all := lw_g (lw_at lw_m1 28 rfl) rfl
set_option maxRecDepth 100000
theorem q1069 : (Jvm.Cond.static ({ cls := "java/lang/System", name := "arraycopy", desc := "(Ljava/lang/Object;ILjava/lang/Object;II)V" } : Jvm.MethodName)) ∈ lw_all := lw_g (lw_at lw_m4 239 rfl) rfl
theorem q1070 : (Jvm.Cond.native ({ cls := "java/lang/System", name := "arraycopy", desc := "(Ljava/lang/Object;ILjava/lang/Object;II)V" } : Jvm.MethodName)) ∈ lw_all := lw_g (lw_at lw_m5 0 rfl) rfl
theorem q700 : (Jvm.Cond.interfaceMethod "jdk/internal/access/JavaLangAccess" "jdk/internal/access/JavaLangAccess" "getUTF16Char" "([BI)C") ∈ lw_tbl := lw_at lw_m3 110 rfl
set_option maxRecDepth 100000
theorem q701 : (Jvm.Cond.declares ({ cls := "jdk/internal/access/JavaLangAccess", name := "getUTF16Char", desc := "([BI)C" } : Jvm.MethodName)) ∈ lw_tbl := lw_at lw_m3 111 rfl
