/-! DECODE ROWS BY BYTES: one lemma an opcode; a method's code is cut into short pieces once, and a row reads its own piece alone. -/
set_option maxRecDepth 100000
/-- the code has just these bytes from pc on -/
def DkAt (code : ByteArray) (pc : Nat) (bs : List UInt8) : Prop := ∀ (j : Nat) (b : UInt8), bs[j]? = some b → code.data.toList[pc + j]? = some b
/-- the piece W has the bytes bs from its place j on -/
def dkIn (W : List UInt8) (j : Nat) (bs : List UInt8) : Bool := decide ((W.drop j).take bs.length = bs)
theorem dk_seg {l W T : List UInt8} {o o2 : Nat} (h : l.drop o = W ++ T) (n : Nat) (hn : W.length = n) (ho : o + n = o2) : l.drop o2 = T := by
  subst ho
  rw [← List.drop_drop, h, List.drop_left' hn]
theorem dk_at {code : ByteArray} {W T bs : List UInt8} {o pc : Nat} (h : code.data.toList.drop o = W ++ T) (j : Nat) (hp : o + j = pc) (hw : dkIn W j bs = true) : DkAt code pc bs := by
  subst hp
  intro i b e
  have h1 := of_decide_eq_true hw
  have h2 : i < bs.length := (List.getElem?_eq_some_iff.mp e).1
  have h3 : W[j + i]? = some b := by
    rw [← h1, List.getElem?_take, if_pos h2, List.getElem?_drop] at e
    exact e
  have h4 : j + i < W.length := (List.getElem?_eq_some_iff.mp h3).1
  have h5 : (code.data.toList.drop o)[j + i]? = some b := by
    rw [h, List.getElem?_append_left h4]
    exact h3
  rw [List.getElem?_drop, ← Nat.add_assoc] at h5
  exact h5
theorem dk_u1 {A : ByteArray} {p : Nat} {b : UInt8} (h : A.data.toList[p]? = some b) : (Reader.u1 : Reader DecodeError Nat) A p = .ok (b.toNat, p + 1) := by
  obtain ⟨h1, h2⟩ := List.getElem?_eq_some_iff.mp h
  have h3 : p < A.size := by simpa using h1
  have h4 : A[p]'h3 = b := h2
  have e : (Reader.u1 : Reader DecodeError Nat) A p = (if h : p < A.size then .ok (A[p].toNat, p + 1) else .error (HasTruncated.truncated p)) := by
    show (do if h : p < A.size then do set (p + 1); Pure.pure A[p].toNat else MonadExcept.throw (HasTruncated.truncated p) : Reader DecodeError Nat) A p = _
    by_cases hi : p < A.size
    · rw [dif_pos hi, dif_pos hi]; rfl
    · rw [dif_neg hi, dif_neg hi]; rfl
  rw [e, dif_pos h3, h4]
theorem dk_bind {α β : Type} {r : Reader DecodeError α} {f : α → Reader DecodeError β} {A : ByteArray} {p s : Nat} {a : α} (h : r A p = .ok (a, s)) : (r >>= f) A p = f a A s := by
  show (do let (a, s) ← r A p; f a A s : Except DecodeError (β × Nat)) = _
  rw [h]
  rfl
theorem dk_map {α β : Type} {r : Reader DecodeError α} {g : α → β} {A : ByteArray} {p s : Nat} {a : α} (h : r A p = .ok (a, s)) : (g <$> r) A p = .ok (g a, s) := by
  show (do let (a, s) ← r A p; .ok (g a, s) : Except DecodeError (β × Nat)) = _
  rw [h]
  rfl
theorem dk_u2 {A : ByteArray} {p : Nat} {a b : UInt8} (h : A.data.toList[p]? = some a) (h2 : A.data.toList[p + 1]? = some b) : (Reader.u2 : Reader DecodeError Nat) A p = .ok (a.toNat * 256 + b.toNat, p + 2) := by
  show (Reader.u1 >>= fun hi => Reader.u1 >>= fun lo => Pure.pure (hi * 256 + lo) : Reader DecodeError Nat) A p = _
  rw [dk_bind (dk_u1 h), dk_bind (dk_u1 h2)]
  rfl
theorem dk_of {code : ByteArray} {pc n : Nat} {i : Instr} (h : Decoder.instr pc code pc = .ok (i, pc + n)) : decode code pc = .ok (i, n) := by
  have e : decode code pc = (match Decoder.instr pc code pc with | .error x => .error x | .ok (j, s) => .ok (j, s - pc)) := by
    show (do let (j, s) ← Decoder.instr pc code pc; Pure.pure (j, s - pc) : Except DecodeError (Instr × Nat)) = _
    cases Decoder.instr pc code pc <;> rfl
  rw [e, h]
  show Except.ok (i, pc + n - pc) = _
  rw [Nat.add_sub_cancel_left]
theorem dk_1 {code : ByteArray} {pc : Nat} (h : DkAt code pc [1]) : decode code pc = .ok (.aconst_null, 1) := dk_of ((dk_bind (dk_u1 (h 0 _ rfl))).trans rfl)
theorem dk_2 {code : ByteArray} {pc : Nat} (h : DkAt code pc [2]) : decode code pc = .ok (.iconst (-1), 1) := dk_of ((dk_bind (dk_u1 (h 0 _ rfl))).trans rfl)
theorem dk_3 {code : ByteArray} {pc : Nat} (h : DkAt code pc [3]) : decode code pc = .ok (.iconst 0, 1) := dk_of ((dk_bind (dk_u1 (h 0 _ rfl))).trans rfl)
theorem dk_4 {code : ByteArray} {pc : Nat} (h : DkAt code pc [4]) : decode code pc = .ok (.iconst 1, 1) := dk_of ((dk_bind (dk_u1 (h 0 _ rfl))).trans rfl)
theorem dk_5 {code : ByteArray} {pc : Nat} (h : DkAt code pc [5]) : decode code pc = .ok (.iconst 2, 1) := dk_of ((dk_bind (dk_u1 (h 0 _ rfl))).trans rfl)
theorem dk_6 {code : ByteArray} {pc : Nat} (h : DkAt code pc [6]) : decode code pc = .ok (.iconst 3, 1) := dk_of ((dk_bind (dk_u1 (h 0 _ rfl))).trans rfl)
theorem dk_7 {code : ByteArray} {pc : Nat} (h : DkAt code pc [7]) : decode code pc = .ok (.iconst 4, 1) := dk_of ((dk_bind (dk_u1 (h 0 _ rfl))).trans rfl)
theorem dk_8 {code : ByteArray} {pc : Nat} (h : DkAt code pc [8]) : decode code pc = .ok (.iconst 5, 1) := dk_of ((dk_bind (dk_u1 (h 0 _ rfl))).trans rfl)
theorem dk_9 {code : ByteArray} {pc : Nat} (h : DkAt code pc [9]) : decode code pc = .ok (.lconst 0, 1) := dk_of ((dk_bind (dk_u1 (h 0 _ rfl))).trans rfl)
theorem dk_10 {code : ByteArray} {pc : Nat} (h : DkAt code pc [10]) : decode code pc = .ok (.lconst 1, 1) := dk_of ((dk_bind (dk_u1 (h 0 _ rfl))).trans rfl)
theorem dk_16 {code : ByteArray} {pc : Nat} (a : UInt8) (h : DkAt code pc [16, a]) : decode code pc = .ok (.bipush (Reader.signed 8 a.toNat), 2) := dk_of ((dk_bind (dk_u1 (h 0 _ rfl))).trans ((dk_bind (dk_map (dk_u1 (h 1 _ rfl)))).trans rfl))
theorem dk_17 {code : ByteArray} {pc : Nat} (a b : UInt8) (h : DkAt code pc [17, a, b]) : decode code pc = .ok (.sipush (Reader.signed 16 (a.toNat * 256 + b.toNat)), 3) := dk_of ((dk_bind (dk_u1 (h 0 _ rfl))).trans ((dk_bind (dk_map (dk_u2 (h 1 _ rfl) (h 2 _ rfl)))).trans rfl))
theorem dk_18 {code : ByteArray} {pc : Nat} (a : UInt8) (h : DkAt code pc [18, a]) : decode code pc = .ok (.ldc a.toNat, 2) := dk_of ((dk_bind (dk_u1 (h 0 _ rfl))).trans ((dk_bind (dk_u1 (h 1 _ rfl))).trans rfl))
theorem dk_19 {code : ByteArray} {pc : Nat} (a b : UInt8) (h : DkAt code pc [19, a, b]) : decode code pc = .ok (.ldc_w (a.toNat * 256 + b.toNat), 3) := dk_of ((dk_bind (dk_u1 (h 0 _ rfl))).trans ((dk_bind (dk_u2 (h 1 _ rfl) (h 2 _ rfl))).trans rfl))
theorem dk_20 {code : ByteArray} {pc : Nat} (a b : UInt8) (h : DkAt code pc [20, a, b]) : decode code pc = .ok (.ldc2_w (a.toNat * 256 + b.toNat), 3) := dk_of ((dk_bind (dk_u1 (h 0 _ rfl))).trans ((dk_bind (dk_u2 (h 1 _ rfl) (h 2 _ rfl))).trans rfl))
theorem dk_21 {code : ByteArray} {pc : Nat} (a : UInt8) (h : DkAt code pc [21, a]) : decode code pc = .ok (.iload a.toNat, 2) := dk_of ((dk_bind (dk_u1 (h 0 _ rfl))).trans ((dk_bind (dk_u1 (h 1 _ rfl))).trans rfl))
theorem dk_22 {code : ByteArray} {pc : Nat} (a : UInt8) (h : DkAt code pc [22, a]) : decode code pc = .ok (.lload a.toNat, 2) := dk_of ((dk_bind (dk_u1 (h 0 _ rfl))).trans ((dk_bind (dk_u1 (h 1 _ rfl))).trans rfl))
theorem dk_25 {code : ByteArray} {pc : Nat} (a : UInt8) (h : DkAt code pc [25, a]) : decode code pc = .ok (.aload a.toNat, 2) := dk_of ((dk_bind (dk_u1 (h 0 _ rfl))).trans ((dk_bind (dk_u1 (h 1 _ rfl))).trans rfl))
theorem dk_26 {code : ByteArray} {pc : Nat} (h : DkAt code pc [26]) : decode code pc = .ok (.iload_n 0, 1) := dk_of ((dk_bind (dk_u1 (h 0 _ rfl))).trans rfl)
theorem dk_27 {code : ByteArray} {pc : Nat} (h : DkAt code pc [27]) : decode code pc = .ok (.iload_n 1, 1) := dk_of ((dk_bind (dk_u1 (h 0 _ rfl))).trans rfl)
theorem dk_28 {code : ByteArray} {pc : Nat} (h : DkAt code pc [28]) : decode code pc = .ok (.iload_n 2, 1) := dk_of ((dk_bind (dk_u1 (h 0 _ rfl))).trans rfl)
theorem dk_29 {code : ByteArray} {pc : Nat} (h : DkAt code pc [29]) : decode code pc = .ok (.iload_n 3, 1) := dk_of ((dk_bind (dk_u1 (h 0 _ rfl))).trans rfl)
theorem dk_30 {code : ByteArray} {pc : Nat} (h : DkAt code pc [30]) : decode code pc = .ok (.lload_n 0, 1) := dk_of ((dk_bind (dk_u1 (h 0 _ rfl))).trans rfl)
theorem dk_31 {code : ByteArray} {pc : Nat} (h : DkAt code pc [31]) : decode code pc = .ok (.lload_n 1, 1) := dk_of ((dk_bind (dk_u1 (h 0 _ rfl))).trans rfl)
theorem dk_32 {code : ByteArray} {pc : Nat} (h : DkAt code pc [32]) : decode code pc = .ok (.lload_n 2, 1) := dk_of ((dk_bind (dk_u1 (h 0 _ rfl))).trans rfl)
theorem dk_33 {code : ByteArray} {pc : Nat} (h : DkAt code pc [33]) : decode code pc = .ok (.lload_n 3, 1) := dk_of ((dk_bind (dk_u1 (h 0 _ rfl))).trans rfl)
theorem dk_42 {code : ByteArray} {pc : Nat} (h : DkAt code pc [42]) : decode code pc = .ok (.aload_n 0, 1) := dk_of ((dk_bind (dk_u1 (h 0 _ rfl))).trans rfl)
theorem dk_43 {code : ByteArray} {pc : Nat} (h : DkAt code pc [43]) : decode code pc = .ok (.aload_n 1, 1) := dk_of ((dk_bind (dk_u1 (h 0 _ rfl))).trans rfl)
theorem dk_44 {code : ByteArray} {pc : Nat} (h : DkAt code pc [44]) : decode code pc = .ok (.aload_n 2, 1) := dk_of ((dk_bind (dk_u1 (h 0 _ rfl))).trans rfl)
theorem dk_45 {code : ByteArray} {pc : Nat} (h : DkAt code pc [45]) : decode code pc = .ok (.aload_n 3, 1) := dk_of ((dk_bind (dk_u1 (h 0 _ rfl))).trans rfl)
theorem dk_46 {code : ByteArray} {pc : Nat} (h : DkAt code pc [46]) : decode code pc = .ok (.iaload, 1) := dk_of ((dk_bind (dk_u1 (h 0 _ rfl))).trans rfl)
theorem dk_47 {code : ByteArray} {pc : Nat} (h : DkAt code pc [47]) : decode code pc = .ok (.laload, 1) := dk_of ((dk_bind (dk_u1 (h 0 _ rfl))).trans rfl)
theorem dk_50 {code : ByteArray} {pc : Nat} (h : DkAt code pc [50]) : decode code pc = .ok (.aaload, 1) := dk_of ((dk_bind (dk_u1 (h 0 _ rfl))).trans rfl)
theorem dk_51 {code : ByteArray} {pc : Nat} (h : DkAt code pc [51]) : decode code pc = .ok (.baload, 1) := dk_of ((dk_bind (dk_u1 (h 0 _ rfl))).trans rfl)
theorem dk_53 {code : ByteArray} {pc : Nat} (h : DkAt code pc [53]) : decode code pc = .ok (.saload, 1) := dk_of ((dk_bind (dk_u1 (h 0 _ rfl))).trans rfl)
theorem dk_54 {code : ByteArray} {pc : Nat} (a : UInt8) (h : DkAt code pc [54, a]) : decode code pc = .ok (.istore a.toNat, 2) := dk_of ((dk_bind (dk_u1 (h 0 _ rfl))).trans ((dk_bind (dk_u1 (h 1 _ rfl))).trans rfl))
theorem dk_55 {code : ByteArray} {pc : Nat} (a : UInt8) (h : DkAt code pc [55, a]) : decode code pc = .ok (.lstore a.toNat, 2) := dk_of ((dk_bind (dk_u1 (h 0 _ rfl))).trans ((dk_bind (dk_u1 (h 1 _ rfl))).trans rfl))
theorem dk_58 {code : ByteArray} {pc : Nat} (a : UInt8) (h : DkAt code pc [58, a]) : decode code pc = .ok (.astore a.toNat, 2) := dk_of ((dk_bind (dk_u1 (h 0 _ rfl))).trans ((dk_bind (dk_u1 (h 1 _ rfl))).trans rfl))
theorem dk_60 {code : ByteArray} {pc : Nat} (h : DkAt code pc [60]) : decode code pc = .ok (.istore_n 1, 1) := dk_of ((dk_bind (dk_u1 (h 0 _ rfl))).trans rfl)
theorem dk_61 {code : ByteArray} {pc : Nat} (h : DkAt code pc [61]) : decode code pc = .ok (.istore_n 2, 1) := dk_of ((dk_bind (dk_u1 (h 0 _ rfl))).trans rfl)
theorem dk_62 {code : ByteArray} {pc : Nat} (h : DkAt code pc [62]) : decode code pc = .ok (.istore_n 3, 1) := dk_of ((dk_bind (dk_u1 (h 0 _ rfl))).trans rfl)
theorem dk_64 {code : ByteArray} {pc : Nat} (h : DkAt code pc [64]) : decode code pc = .ok (.lstore_n 1, 1) := dk_of ((dk_bind (dk_u1 (h 0 _ rfl))).trans rfl)
theorem dk_65 {code : ByteArray} {pc : Nat} (h : DkAt code pc [65]) : decode code pc = .ok (.lstore_n 2, 1) := dk_of ((dk_bind (dk_u1 (h 0 _ rfl))).trans rfl)
theorem dk_66 {code : ByteArray} {pc : Nat} (h : DkAt code pc [66]) : decode code pc = .ok (.lstore_n 3, 1) := dk_of ((dk_bind (dk_u1 (h 0 _ rfl))).trans rfl)
theorem dk_76 {code : ByteArray} {pc : Nat} (h : DkAt code pc [76]) : decode code pc = .ok (.astore_n 1, 1) := dk_of ((dk_bind (dk_u1 (h 0 _ rfl))).trans rfl)
theorem dk_77 {code : ByteArray} {pc : Nat} (h : DkAt code pc [77]) : decode code pc = .ok (.astore_n 2, 1) := dk_of ((dk_bind (dk_u1 (h 0 _ rfl))).trans rfl)
theorem dk_78 {code : ByteArray} {pc : Nat} (h : DkAt code pc [78]) : decode code pc = .ok (.astore_n 3, 1) := dk_of ((dk_bind (dk_u1 (h 0 _ rfl))).trans rfl)
theorem dk_79 {code : ByteArray} {pc : Nat} (h : DkAt code pc [79]) : decode code pc = .ok (.iastore, 1) := dk_of ((dk_bind (dk_u1 (h 0 _ rfl))).trans rfl)
theorem dk_80 {code : ByteArray} {pc : Nat} (h : DkAt code pc [80]) : decode code pc = .ok (.lastore, 1) := dk_of ((dk_bind (dk_u1 (h 0 _ rfl))).trans rfl)
theorem dk_83 {code : ByteArray} {pc : Nat} (h : DkAt code pc [83]) : decode code pc = .ok (.aastore, 1) := dk_of ((dk_bind (dk_u1 (h 0 _ rfl))).trans rfl)
theorem dk_84 {code : ByteArray} {pc : Nat} (h : DkAt code pc [84]) : decode code pc = .ok (.bastore, 1) := dk_of ((dk_bind (dk_u1 (h 0 _ rfl))).trans rfl)
theorem dk_86 {code : ByteArray} {pc : Nat} (h : DkAt code pc [86]) : decode code pc = .ok (.sastore, 1) := dk_of ((dk_bind (dk_u1 (h 0 _ rfl))).trans rfl)
theorem dk_87 {code : ByteArray} {pc : Nat} (h : DkAt code pc [87]) : decode code pc = .ok (.pop, 1) := dk_of ((dk_bind (dk_u1 (h 0 _ rfl))).trans rfl)
theorem dk_89 {code : ByteArray} {pc : Nat} (h : DkAt code pc [89]) : decode code pc = .ok (.dup, 1) := dk_of ((dk_bind (dk_u1 (h 0 _ rfl))).trans rfl)
theorem dk_92 {code : ByteArray} {pc : Nat} (h : DkAt code pc [92]) : decode code pc = .ok (.dup2, 1) := dk_of ((dk_bind (dk_u1 (h 0 _ rfl))).trans rfl)
theorem dk_96 {code : ByteArray} {pc : Nat} (h : DkAt code pc [96]) : decode code pc = .ok (.iadd, 1) := dk_of ((dk_bind (dk_u1 (h 0 _ rfl))).trans rfl)
theorem dk_97 {code : ByteArray} {pc : Nat} (h : DkAt code pc [97]) : decode code pc = .ok (.ladd, 1) := dk_of ((dk_bind (dk_u1 (h 0 _ rfl))).trans rfl)
theorem dk_100 {code : ByteArray} {pc : Nat} (h : DkAt code pc [100]) : decode code pc = .ok (.isub, 1) := dk_of ((dk_bind (dk_u1 (h 0 _ rfl))).trans rfl)
theorem dk_101 {code : ByteArray} {pc : Nat} (h : DkAt code pc [101]) : decode code pc = .ok (.lsub, 1) := dk_of ((dk_bind (dk_u1 (h 0 _ rfl))).trans rfl)
theorem dk_104 {code : ByteArray} {pc : Nat} (h : DkAt code pc [104]) : decode code pc = .ok (.imul, 1) := dk_of ((dk_bind (dk_u1 (h 0 _ rfl))).trans rfl)
theorem dk_105 {code : ByteArray} {pc : Nat} (h : DkAt code pc [105]) : decode code pc = .ok (.lmul, 1) := dk_of ((dk_bind (dk_u1 (h 0 _ rfl))).trans rfl)
theorem dk_108 {code : ByteArray} {pc : Nat} (h : DkAt code pc [108]) : decode code pc = .ok (.idiv, 1) := dk_of ((dk_bind (dk_u1 (h 0 _ rfl))).trans rfl)
theorem dk_109 {code : ByteArray} {pc : Nat} (h : DkAt code pc [109]) : decode code pc = .ok (.ldiv, 1) := dk_of ((dk_bind (dk_u1 (h 0 _ rfl))).trans rfl)
theorem dk_112 {code : ByteArray} {pc : Nat} (h : DkAt code pc [112]) : decode code pc = .ok (.irem, 1) := dk_of ((dk_bind (dk_u1 (h 0 _ rfl))).trans rfl)
theorem dk_113 {code : ByteArray} {pc : Nat} (h : DkAt code pc [113]) : decode code pc = .ok (.lrem, 1) := dk_of ((dk_bind (dk_u1 (h 0 _ rfl))).trans rfl)
theorem dk_117 {code : ByteArray} {pc : Nat} (h : DkAt code pc [117]) : decode code pc = .ok (.lneg, 1) := dk_of ((dk_bind (dk_u1 (h 0 _ rfl))).trans rfl)
theorem dk_120 {code : ByteArray} {pc : Nat} (h : DkAt code pc [120]) : decode code pc = .ok (.ishl, 1) := dk_of ((dk_bind (dk_u1 (h 0 _ rfl))).trans rfl)
theorem dk_121 {code : ByteArray} {pc : Nat} (h : DkAt code pc [121]) : decode code pc = .ok (.lshl, 1) := dk_of ((dk_bind (dk_u1 (h 0 _ rfl))).trans rfl)
theorem dk_122 {code : ByteArray} {pc : Nat} (h : DkAt code pc [122]) : decode code pc = .ok (.ishr, 1) := dk_of ((dk_bind (dk_u1 (h 0 _ rfl))).trans rfl)
theorem dk_126 {code : ByteArray} {pc : Nat} (h : DkAt code pc [126]) : decode code pc = .ok (.iand, 1) := dk_of ((dk_bind (dk_u1 (h 0 _ rfl))).trans rfl)
theorem dk_127 {code : ByteArray} {pc : Nat} (h : DkAt code pc [127]) : decode code pc = .ok (.land, 1) := dk_of ((dk_bind (dk_u1 (h 0 _ rfl))).trans rfl)
theorem dk_128 {code : ByteArray} {pc : Nat} (h : DkAt code pc [128]) : decode code pc = .ok (.ior, 1) := dk_of ((dk_bind (dk_u1 (h 0 _ rfl))).trans rfl)
theorem dk_129 {code : ByteArray} {pc : Nat} (h : DkAt code pc [129]) : decode code pc = .ok (.lor, 1) := dk_of ((dk_bind (dk_u1 (h 0 _ rfl))).trans rfl)
theorem dk_132 {code : ByteArray} {pc : Nat} (a b : UInt8) (h : DkAt code pc [132, a, b]) : decode code pc = .ok (.iinc a.toNat (Reader.signed 8 b.toNat), 3) := dk_of ((dk_bind (dk_u1 (h 0 _ rfl))).trans ((dk_bind (dk_u1 (h 1 _ rfl))).trans ((dk_bind (dk_map (dk_u1 (h 2 _ rfl)))).trans rfl)))
theorem dk_133 {code : ByteArray} {pc : Nat} (h : DkAt code pc [133]) : decode code pc = .ok (.i2l, 1) := dk_of ((dk_bind (dk_u1 (h 0 _ rfl))).trans rfl)
theorem dk_136 {code : ByteArray} {pc : Nat} (h : DkAt code pc [136]) : decode code pc = .ok (.l2i, 1) := dk_of ((dk_bind (dk_u1 (h 0 _ rfl))).trans rfl)
theorem dk_145 {code : ByteArray} {pc : Nat} (h : DkAt code pc [145]) : decode code pc = .ok (.i2b, 1) := dk_of ((dk_bind (dk_u1 (h 0 _ rfl))).trans rfl)
theorem dk_146 {code : ByteArray} {pc : Nat} (h : DkAt code pc [146]) : decode code pc = .ok (.i2c, 1) := dk_of ((dk_bind (dk_u1 (h 0 _ rfl))).trans rfl)
theorem dk_147 {code : ByteArray} {pc : Nat} (h : DkAt code pc [147]) : decode code pc = .ok (.i2s, 1) := dk_of ((dk_bind (dk_u1 (h 0 _ rfl))).trans rfl)
theorem dk_148 {code : ByteArray} {pc : Nat} (h : DkAt code pc [148]) : decode code pc = .ok (.lcmp, 1) := dk_of ((dk_bind (dk_u1 (h 0 _ rfl))).trans rfl)
theorem dk_153 {code : ByteArray} {pc : Nat} (a b : UInt8) (h : DkAt code pc [153, a, b]) : decode code pc = .ok (.ifCond .eq (Reader.signed 16 (a.toNat * 256 + b.toNat)), 3) := dk_of ((dk_bind (dk_u1 (h 0 _ rfl))).trans ((dk_bind (dk_map (dk_u2 (h 1 _ rfl) (h 2 _ rfl)))).trans rfl))
theorem dk_154 {code : ByteArray} {pc : Nat} (a b : UInt8) (h : DkAt code pc [154, a, b]) : decode code pc = .ok (.ifCond .ne (Reader.signed 16 (a.toNat * 256 + b.toNat)), 3) := dk_of ((dk_bind (dk_u1 (h 0 _ rfl))).trans ((dk_bind (dk_map (dk_u2 (h 1 _ rfl) (h 2 _ rfl)))).trans rfl))
theorem dk_155 {code : ByteArray} {pc : Nat} (a b : UInt8) (h : DkAt code pc [155, a, b]) : decode code pc = .ok (.ifCond .lt (Reader.signed 16 (a.toNat * 256 + b.toNat)), 3) := dk_of ((dk_bind (dk_u1 (h 0 _ rfl))).trans ((dk_bind (dk_map (dk_u2 (h 1 _ rfl) (h 2 _ rfl)))).trans rfl))
theorem dk_156 {code : ByteArray} {pc : Nat} (a b : UInt8) (h : DkAt code pc [156, a, b]) : decode code pc = .ok (.ifCond .ge (Reader.signed 16 (a.toNat * 256 + b.toNat)), 3) := dk_of ((dk_bind (dk_u1 (h 0 _ rfl))).trans ((dk_bind (dk_map (dk_u2 (h 1 _ rfl) (h 2 _ rfl)))).trans rfl))
theorem dk_157 {code : ByteArray} {pc : Nat} (a b : UInt8) (h : DkAt code pc [157, a, b]) : decode code pc = .ok (.ifCond .gt (Reader.signed 16 (a.toNat * 256 + b.toNat)), 3) := dk_of ((dk_bind (dk_u1 (h 0 _ rfl))).trans ((dk_bind (dk_map (dk_u2 (h 1 _ rfl) (h 2 _ rfl)))).trans rfl))
theorem dk_158 {code : ByteArray} {pc : Nat} (a b : UInt8) (h : DkAt code pc [158, a, b]) : decode code pc = .ok (.ifCond .le (Reader.signed 16 (a.toNat * 256 + b.toNat)), 3) := dk_of ((dk_bind (dk_u1 (h 0 _ rfl))).trans ((dk_bind (dk_map (dk_u2 (h 1 _ rfl) (h 2 _ rfl)))).trans rfl))
theorem dk_159 {code : ByteArray} {pc : Nat} (a b : UInt8) (h : DkAt code pc [159, a, b]) : decode code pc = .ok (.if_icmp .eq (Reader.signed 16 (a.toNat * 256 + b.toNat)), 3) := dk_of ((dk_bind (dk_u1 (h 0 _ rfl))).trans ((dk_bind (dk_map (dk_u2 (h 1 _ rfl) (h 2 _ rfl)))).trans rfl))
theorem dk_160 {code : ByteArray} {pc : Nat} (a b : UInt8) (h : DkAt code pc [160, a, b]) : decode code pc = .ok (.if_icmp .ne (Reader.signed 16 (a.toNat * 256 + b.toNat)), 3) := dk_of ((dk_bind (dk_u1 (h 0 _ rfl))).trans ((dk_bind (dk_map (dk_u2 (h 1 _ rfl) (h 2 _ rfl)))).trans rfl))
theorem dk_161 {code : ByteArray} {pc : Nat} (a b : UInt8) (h : DkAt code pc [161, a, b]) : decode code pc = .ok (.if_icmp .lt (Reader.signed 16 (a.toNat * 256 + b.toNat)), 3) := dk_of ((dk_bind (dk_u1 (h 0 _ rfl))).trans ((dk_bind (dk_map (dk_u2 (h 1 _ rfl) (h 2 _ rfl)))).trans rfl))
theorem dk_162 {code : ByteArray} {pc : Nat} (a b : UInt8) (h : DkAt code pc [162, a, b]) : decode code pc = .ok (.if_icmp .ge (Reader.signed 16 (a.toNat * 256 + b.toNat)), 3) := dk_of ((dk_bind (dk_u1 (h 0 _ rfl))).trans ((dk_bind (dk_map (dk_u2 (h 1 _ rfl) (h 2 _ rfl)))).trans rfl))
theorem dk_163 {code : ByteArray} {pc : Nat} (a b : UInt8) (h : DkAt code pc [163, a, b]) : decode code pc = .ok (.if_icmp .gt (Reader.signed 16 (a.toNat * 256 + b.toNat)), 3) := dk_of ((dk_bind (dk_u1 (h 0 _ rfl))).trans ((dk_bind (dk_map (dk_u2 (h 1 _ rfl) (h 2 _ rfl)))).trans rfl))
theorem dk_164 {code : ByteArray} {pc : Nat} (a b : UInt8) (h : DkAt code pc [164, a, b]) : decode code pc = .ok (.if_icmp .le (Reader.signed 16 (a.toNat * 256 + b.toNat)), 3) := dk_of ((dk_bind (dk_u1 (h 0 _ rfl))).trans ((dk_bind (dk_map (dk_u2 (h 1 _ rfl) (h 2 _ rfl)))).trans rfl))
theorem dk_165 {code : ByteArray} {pc : Nat} (a b : UInt8) (h : DkAt code pc [165, a, b]) : decode code pc = .ok (.if_acmp .eq (Reader.signed 16 (a.toNat * 256 + b.toNat)), 3) := dk_of ((dk_bind (dk_u1 (h 0 _ rfl))).trans ((dk_bind (dk_map (dk_u2 (h 1 _ rfl) (h 2 _ rfl)))).trans rfl))
theorem dk_166 {code : ByteArray} {pc : Nat} (a b : UInt8) (h : DkAt code pc [166, a, b]) : decode code pc = .ok (.if_acmp .ne (Reader.signed 16 (a.toNat * 256 + b.toNat)), 3) := dk_of ((dk_bind (dk_u1 (h 0 _ rfl))).trans ((dk_bind (dk_map (dk_u2 (h 1 _ rfl) (h 2 _ rfl)))).trans rfl))
theorem dk_167 {code : ByteArray} {pc : Nat} (a b : UInt8) (h : DkAt code pc [167, a, b]) : decode code pc = .ok (.goto (Reader.signed 16 (a.toNat * 256 + b.toNat)), 3) := dk_of ((dk_bind (dk_u1 (h 0 _ rfl))).trans ((dk_bind (dk_map (dk_u2 (h 1 _ rfl) (h 2 _ rfl)))).trans rfl))
theorem dk_172 {code : ByteArray} {pc : Nat} (h : DkAt code pc [172]) : decode code pc = .ok (.ireturn, 1) := dk_of ((dk_bind (dk_u1 (h 0 _ rfl))).trans rfl)
theorem dk_173 {code : ByteArray} {pc : Nat} (h : DkAt code pc [173]) : decode code pc = .ok (.lreturn, 1) := dk_of ((dk_bind (dk_u1 (h 0 _ rfl))).trans rfl)
theorem dk_176 {code : ByteArray} {pc : Nat} (h : DkAt code pc [176]) : decode code pc = .ok (.areturn, 1) := dk_of ((dk_bind (dk_u1 (h 0 _ rfl))).trans rfl)
theorem dk_177 {code : ByteArray} {pc : Nat} (h : DkAt code pc [177]) : decode code pc = .ok (.return_, 1) := dk_of ((dk_bind (dk_u1 (h 0 _ rfl))).trans rfl)
theorem dk_178 {code : ByteArray} {pc : Nat} (a b : UInt8) (h : DkAt code pc [178, a, b]) : decode code pc = .ok (.getstatic (a.toNat * 256 + b.toNat), 3) := dk_of ((dk_bind (dk_u1 (h 0 _ rfl))).trans ((dk_bind (dk_u2 (h 1 _ rfl) (h 2 _ rfl))).trans rfl))
theorem dk_180 {code : ByteArray} {pc : Nat} (a b : UInt8) (h : DkAt code pc [180, a, b]) : decode code pc = .ok (.getfield (a.toNat * 256 + b.toNat), 3) := dk_of ((dk_bind (dk_u1 (h 0 _ rfl))).trans ((dk_bind (dk_u2 (h 1 _ rfl) (h 2 _ rfl))).trans rfl))
theorem dk_181 {code : ByteArray} {pc : Nat} (a b : UInt8) (h : DkAt code pc [181, a, b]) : decode code pc = .ok (.putfield (a.toNat * 256 + b.toNat), 3) := dk_of ((dk_bind (dk_u1 (h 0 _ rfl))).trans ((dk_bind (dk_u2 (h 1 _ rfl) (h 2 _ rfl))).trans rfl))
theorem dk_182 {code : ByteArray} {pc : Nat} (a b : UInt8) (h : DkAt code pc [182, a, b]) : decode code pc = .ok (.invokevirtual (a.toNat * 256 + b.toNat), 3) := dk_of ((dk_bind (dk_u1 (h 0 _ rfl))).trans ((dk_bind (dk_u2 (h 1 _ rfl) (h 2 _ rfl))).trans rfl))
theorem dk_183 {code : ByteArray} {pc : Nat} (a b : UInt8) (h : DkAt code pc [183, a, b]) : decode code pc = .ok (.invokespecial (a.toNat * 256 + b.toNat), 3) := dk_of ((dk_bind (dk_u1 (h 0 _ rfl))).trans ((dk_bind (dk_u2 (h 1 _ rfl) (h 2 _ rfl))).trans rfl))
theorem dk_184 {code : ByteArray} {pc : Nat} (a b : UInt8) (h : DkAt code pc [184, a, b]) : decode code pc = .ok (.invokestatic (a.toNat * 256 + b.toNat), 3) := dk_of ((dk_bind (dk_u1 (h 0 _ rfl))).trans ((dk_bind (dk_u2 (h 1 _ rfl) (h 2 _ rfl))).trans rfl))
theorem dk_187 {code : ByteArray} {pc : Nat} (a b : UInt8) (h : DkAt code pc [187, a, b]) : decode code pc = .ok (.new (a.toNat * 256 + b.toNat), 3) := dk_of ((dk_bind (dk_u1 (h 0 _ rfl))).trans ((dk_bind (dk_u2 (h 1 _ rfl) (h 2 _ rfl))).trans rfl))
theorem dk_188_4 {code : ByteArray} {pc : Nat} (h : DkAt code pc [188, 4]) : decode code pc = .ok (.newarray .boolean, 2) := dk_of ((dk_bind (dk_u1 (h 0 _ rfl))).trans ((dk_bind (dk_u1 (h 1 _ rfl))).trans rfl))
theorem dk_188_8 {code : ByteArray} {pc : Nat} (h : DkAt code pc [188, 8]) : decode code pc = .ok (.newarray .byte, 2) := dk_of ((dk_bind (dk_u1 (h 0 _ rfl))).trans ((dk_bind (dk_u1 (h 1 _ rfl))).trans rfl))
theorem dk_188_9 {code : ByteArray} {pc : Nat} (h : DkAt code pc [188, 9]) : decode code pc = .ok (.newarray .short, 2) := dk_of ((dk_bind (dk_u1 (h 0 _ rfl))).trans ((dk_bind (dk_u1 (h 1 _ rfl))).trans rfl))
theorem dk_188_10 {code : ByteArray} {pc : Nat} (h : DkAt code pc [188, 10]) : decode code pc = .ok (.newarray .int, 2) := dk_of ((dk_bind (dk_u1 (h 0 _ rfl))).trans ((dk_bind (dk_u1 (h 1 _ rfl))).trans rfl))
theorem dk_188_11 {code : ByteArray} {pc : Nat} (h : DkAt code pc [188, 11]) : decode code pc = .ok (.newarray .long, 2) := dk_of ((dk_bind (dk_u1 (h 0 _ rfl))).trans ((dk_bind (dk_u1 (h 1 _ rfl))).trans rfl))
theorem dk_189 {code : ByteArray} {pc : Nat} (a b : UInt8) (h : DkAt code pc [189, a, b]) : decode code pc = .ok (.anewarray (a.toNat * 256 + b.toNat), 3) := dk_of ((dk_bind (dk_u1 (h 0 _ rfl))).trans ((dk_bind (dk_u2 (h 1 _ rfl) (h 2 _ rfl))).trans rfl))
theorem dk_190 {code : ByteArray} {pc : Nat} (h : DkAt code pc [190]) : decode code pc = .ok (.arraylength, 1) := dk_of ((dk_bind (dk_u1 (h 0 _ rfl))).trans rfl)
theorem dk_191 {code : ByteArray} {pc : Nat} (h : DkAt code pc [191]) : decode code pc = .ok (.athrow, 1) := dk_of ((dk_bind (dk_u1 (h 0 _ rfl))).trans rfl)
theorem dk_192 {code : ByteArray} {pc : Nat} (a b : UInt8) (h : DkAt code pc [192, a, b]) : decode code pc = .ok (.checkcast (a.toNat * 256 + b.toNat), 3) := dk_of ((dk_bind (dk_u1 (h 0 _ rfl))).trans ((dk_bind (dk_u2 (h 1 _ rfl) (h 2 _ rfl))).trans rfl))
theorem dk_198 {code : ByteArray} {pc : Nat} (a b : UInt8) (h : DkAt code pc [198, a, b]) : decode code pc = .ok (.ifnull (Reader.signed 16 (a.toNat * 256 + b.toNat)), 3) := dk_of ((dk_bind (dk_u1 (h 0 _ rfl))).trans ((dk_bind (dk_map (dk_u2 (h 1 _ rfl) (h 2 _ rfl)))).trans rfl))
theorem dk_199 {code : ByteArray} {pc : Nat} (a b : UInt8) (h : DkAt code pc [199, a, b]) : decode code pc = .ok (.ifnonnull (Reader.signed 16 (a.toNat * 256 + b.toNat)), 3) := dk_of ((dk_bind (dk_u1 (h 0 _ rfl))).trans ((dk_bind (dk_map (dk_u2 (h 1 _ rfl) (h 2 _ rfl)))).trans rfl))

/-! java/lang/Throwable -/
set_option maxRecDepth 100000
def RJ0 : String := "java/lang/Throwable"
def TJ0 : u_T := fun k => match k with
  | 0 => ("java/lang/Throwable", "cause", "Ljava/lang/Throwable;", false)
  | 1 => ("java/lang/Throwable", "stackTrace", "[Ljava/lang/StackTraceElement;", false)
  | 2 => ("java/lang/Throwable", "suppressedExceptions", "Ljava/util/List;", false)
  | 3 => ("java/lang/Throwable", "detailMessage", "Ljava/lang/String;", false)
  | _ => ("java/lang/Throwable", "backtrace", "Ljava/lang/Object;", false)
def tyJ0 : Nat → FieldType := fun k => match k with
  | 0 => .object "java/lang/Throwable"
  | 1 => .array (.object "java/lang/StackTraceElement")
  | 2 => .object "java/util/List"
  | 3 => .object "java/lang/String"
  | _ => .object "java/lang/Object"
abbrev wsJ00 : List Cond := u_ws RJ0 TJ0 5
theorem nmJ0 : ∀ a, a < 5 → ∀ b, b < 5 → a ≠ b → (TJ0 a).2.1 ≠ (TJ0 b).2.1 := by decide +kernel
theorem tyJ0_ok : ∀ k, k < 5 → parseFieldDescriptor (TJ0 k).2.2.1 = some (tyJ0 k) := by decide +kernel
abbrev cJ0_init : ByteArray := prog_27_method_1_code
def yJ0_init : MethodName := ⟨RJ0, "<init>", "()V"⟩
def dkwJ0_init_1 : List UInt8 := [182, 0, 27, 87, 177]
abbrev dktJ0_init_1 : List UInt8 := dkwJ0_init_1 ++ []
def dkwJ0_init_0 : List UInt8 := [42, 183, 0, 1, 42, 42, 181, 0, 7, 42, 178, 0, 13, 181, 0, 17, 42, 178, 0, 20, 181, 0, 24, 42]
abbrev dktJ0_init_0 : List UInt8 := dkwJ0_init_0 ++ dktJ0_init_1
theorem dksJ0_init_0 : cJ0_init.data.toList.drop 0 = dktJ0_init_0 := by decide +kernel
theorem dksJ0_init_1 : cJ0_init.data.toList.drop 24 = dktJ0_init_1 := dk_seg dksJ0_init_0 24 rfl rfl
theorem dJ0_init_0 : decode cJ0_init 0 = .ok (.aload_n 0, 1) := dk_42 (dk_at dksJ0_init_0 0 rfl rfl)
theorem dJ0_init_1 : decode cJ0_init 1 = .ok (.invokespecial 1, 3) := dk_183 0 1 (dk_at dksJ0_init_0 1 rfl rfl)
theorem dJ0_init_4 : decode cJ0_init 4 = .ok (.aload_n 0, 1) := dk_42 (dk_at dksJ0_init_0 4 rfl rfl)
theorem dJ0_init_5 : decode cJ0_init 5 = .ok (.aload_n 0, 1) := dk_42 (dk_at dksJ0_init_0 5 rfl rfl)
theorem dJ0_init_6 : decode cJ0_init 6 = .ok (.putfield 7, 3) := dk_181 0 7 (dk_at dksJ0_init_0 6 rfl rfl)
theorem dJ0_init_9 : decode cJ0_init 9 = .ok (.aload_n 0, 1) := dk_42 (dk_at dksJ0_init_0 9 rfl rfl)
theorem dJ0_init_10 : decode cJ0_init 10 = .ok (.getstatic 13, 3) := dk_178 0 13 (dk_at dksJ0_init_0 10 rfl rfl)
theorem dJ0_init_13 : decode cJ0_init 13 = .ok (.putfield 17, 3) := dk_181 0 17 (dk_at dksJ0_init_0 13 rfl rfl)
theorem dJ0_init_16 : decode cJ0_init 16 = .ok (.aload_n 0, 1) := dk_42 (dk_at dksJ0_init_0 16 rfl rfl)
theorem dJ0_init_17 : decode cJ0_init 17 = .ok (.getstatic 20, 3) := dk_178 0 20 (dk_at dksJ0_init_0 17 rfl rfl)
theorem dJ0_init_20 : decode cJ0_init 20 = .ok (.putfield 24, 3) := dk_181 0 24 (dk_at dksJ0_init_0 20 rfl rfl)
theorem dJ0_init_23 : decode cJ0_init 23 = .ok (.aload_n 0, 1) := dk_42 (dk_at dksJ0_init_0 23 rfl rfl)
theorem dJ0_init_24 : decode cJ0_init 24 = .ok (.invokevirtual 27, 3) := dk_182 0 27 (dk_at dksJ0_init_1 0 rfl rfl)
theorem dJ0_init_27 : decode cJ0_init 27 = .ok (.pop, 1) := dk_87 (dk_at dksJ0_init_1 3 rfl rfl)
theorem dJ0_init_28 : decode cJ0_init 28 = .ok (.return_, 1) := dk_177 (dk_at dksJ0_init_1 4 rfl rfl)
abbrev cJ0_init_2 : ByteArray := prog_27_method_5_code
def yJ0_init_2 : MethodName := ⟨RJ0, "<init>", "(Ljava/lang/String;Ljava/lang/Throwable;ZZ)V"⟩
def dkwJ0_init_2_2 : List UInt8 := [44, 181, 0, 7, 29, 154, 0, 8, 42, 1, 181, 0, 24, 177]
abbrev dktJ0_init_2_2 : List UInt8 := dkwJ0_init_2_2 ++ []
def dkwJ0_init_2_1 : List UInt8 := [21, 4, 153, 0, 11, 42, 182, 0, 27, 87, 167, 0, 8, 42, 1, 181, 0, 17, 42, 43, 181, 0, 31, 42]
abbrev dktJ0_init_2_1 : List UInt8 := dkwJ0_init_2_1 ++ dktJ0_init_2_2
def dkwJ0_init_2_0 : List UInt8 := [42, 183, 0, 1, 42, 42, 181, 0, 7, 42, 178, 0, 13, 181, 0, 17, 42, 178, 0, 20, 181, 0, 24]
abbrev dktJ0_init_2_0 : List UInt8 := dkwJ0_init_2_0 ++ dktJ0_init_2_1
theorem dksJ0_init_2_0 : cJ0_init_2.data.toList.drop 0 = dktJ0_init_2_0 := by decide +kernel
theorem dksJ0_init_2_1 : cJ0_init_2.data.toList.drop 23 = dktJ0_init_2_1 := dk_seg dksJ0_init_2_0 23 rfl rfl
theorem dksJ0_init_2_2 : cJ0_init_2.data.toList.drop 47 = dktJ0_init_2_2 := dk_seg dksJ0_init_2_1 24 rfl rfl
theorem dJ0_init_2_0 : decode cJ0_init_2 0 = .ok (.aload_n 0, 1) := dk_42 (dk_at dksJ0_init_2_0 0 rfl rfl)
theorem dJ0_init_2_1 : decode cJ0_init_2 1 = .ok (.invokespecial 1, 3) := dk_183 0 1 (dk_at dksJ0_init_2_0 1 rfl rfl)
theorem dJ0_init_2_4 : decode cJ0_init_2 4 = .ok (.aload_n 0, 1) := dk_42 (dk_at dksJ0_init_2_0 4 rfl rfl)
theorem dJ0_init_2_5 : decode cJ0_init_2 5 = .ok (.aload_n 0, 1) := dk_42 (dk_at dksJ0_init_2_0 5 rfl rfl)
theorem dJ0_init_2_6 : decode cJ0_init_2 6 = .ok (.putfield 7, 3) := dk_181 0 7 (dk_at dksJ0_init_2_0 6 rfl rfl)
theorem dJ0_init_2_9 : decode cJ0_init_2 9 = .ok (.aload_n 0, 1) := dk_42 (dk_at dksJ0_init_2_0 9 rfl rfl)
theorem dJ0_init_2_10 : decode cJ0_init_2 10 = .ok (.getstatic 13, 3) := dk_178 0 13 (dk_at dksJ0_init_2_0 10 rfl rfl)
theorem dJ0_init_2_13 : decode cJ0_init_2 13 = .ok (.putfield 17, 3) := dk_181 0 17 (dk_at dksJ0_init_2_0 13 rfl rfl)
theorem dJ0_init_2_16 : decode cJ0_init_2 16 = .ok (.aload_n 0, 1) := dk_42 (dk_at dksJ0_init_2_0 16 rfl rfl)
theorem dJ0_init_2_17 : decode cJ0_init_2 17 = .ok (.getstatic 20, 3) := dk_178 0 20 (dk_at dksJ0_init_2_0 17 rfl rfl)
theorem dJ0_init_2_20 : decode cJ0_init_2 20 = .ok (.putfield 24, 3) := dk_181 0 24 (dk_at dksJ0_init_2_0 20 rfl rfl)
theorem dJ0_init_2_23 : decode cJ0_init_2 23 = .ok (.iload 4, 2) := dk_21 4 (dk_at dksJ0_init_2_1 0 rfl rfl)
theorem dJ0_init_2_25 : decode cJ0_init_2 25 = .ok (.ifCond .eq 11, 3) := dk_153 0 11 (dk_at dksJ0_init_2_1 2 rfl rfl)
theorem dJ0_init_2_28 : decode cJ0_init_2 28 = .ok (.aload_n 0, 1) := dk_42 (dk_at dksJ0_init_2_1 5 rfl rfl)
theorem dJ0_init_2_29 : decode cJ0_init_2 29 = .ok (.invokevirtual 27, 3) := dk_182 0 27 (dk_at dksJ0_init_2_1 6 rfl rfl)
theorem dJ0_init_2_32 : decode cJ0_init_2 32 = .ok (.pop, 1) := dk_87 (dk_at dksJ0_init_2_1 9 rfl rfl)
theorem dJ0_init_2_33 : decode cJ0_init_2 33 = .ok (.goto 8, 3) := dk_167 0 8 (dk_at dksJ0_init_2_1 10 rfl rfl)
theorem dJ0_init_2_36 : decode cJ0_init_2 36 = .ok (.aload_n 0, 1) := dk_42 (dk_at dksJ0_init_2_1 13 rfl rfl)
theorem dJ0_init_2_37 : decode cJ0_init_2 37 = .ok (.aconst_null, 1) := dk_1 (dk_at dksJ0_init_2_1 14 rfl rfl)
theorem dJ0_init_2_38 : decode cJ0_init_2 38 = .ok (.putfield 17, 3) := dk_181 0 17 (dk_at dksJ0_init_2_1 15 rfl rfl)
theorem dJ0_init_2_41 : decode cJ0_init_2 41 = .ok (.aload_n 0, 1) := dk_42 (dk_at dksJ0_init_2_1 18 rfl rfl)
theorem dJ0_init_2_42 : decode cJ0_init_2 42 = .ok (.aload_n 1, 1) := dk_43 (dk_at dksJ0_init_2_1 19 rfl rfl)
theorem dJ0_init_2_43 : decode cJ0_init_2 43 = .ok (.putfield 31, 3) := dk_181 0 31 (dk_at dksJ0_init_2_1 20 rfl rfl)
theorem dJ0_init_2_46 : decode cJ0_init_2 46 = .ok (.aload_n 0, 1) := dk_42 (dk_at dksJ0_init_2_1 23 rfl rfl)
theorem dJ0_init_2_47 : decode cJ0_init_2 47 = .ok (.aload_n 2, 1) := dk_44 (dk_at dksJ0_init_2_2 0 rfl rfl)
theorem dJ0_init_2_48 : decode cJ0_init_2 48 = .ok (.putfield 7, 3) := dk_181 0 7 (dk_at dksJ0_init_2_2 1 rfl rfl)
theorem dJ0_init_2_51 : decode cJ0_init_2 51 = .ok (.iload_n 3, 1) := dk_29 (dk_at dksJ0_init_2_2 4 rfl rfl)
theorem dJ0_init_2_52 : decode cJ0_init_2 52 = .ok (.ifCond .ne 8, 3) := dk_154 0 8 (dk_at dksJ0_init_2_2 5 rfl rfl)
theorem dJ0_init_2_55 : decode cJ0_init_2 55 = .ok (.aload_n 0, 1) := dk_42 (dk_at dksJ0_init_2_2 8 rfl rfl)
theorem dJ0_init_2_56 : decode cJ0_init_2 56 = .ok (.aconst_null, 1) := dk_1 (dk_at dksJ0_init_2_2 9 rfl rfl)
theorem dJ0_init_2_57 : decode cJ0_init_2 57 = .ok (.putfield 24, 3) := dk_181 0 24 (dk_at dksJ0_init_2_2 10 rfl rfl)
theorem dJ0_init_2_60 : decode cJ0_init_2 60 = .ok (.return_, 1) := dk_177 (dk_at dksJ0_init_2_2 13 rfl rfl)
abbrev cJ0_init_3 : ByteArray := prog_27_method_2_code
def yJ0_init_3 : MethodName := ⟨RJ0, "<init>", "(Ljava/lang/String;)V"⟩
def dkwJ0_init_3_1 : List UInt8 := [182, 0, 27, 87, 42, 43, 181, 0, 31, 177]
abbrev dktJ0_init_3_1 : List UInt8 := dkwJ0_init_3_1 ++ []
def dkwJ0_init_3_0 : List UInt8 := [42, 183, 0, 1, 42, 42, 181, 0, 7, 42, 178, 0, 13, 181, 0, 17, 42, 178, 0, 20, 181, 0, 24, 42]
abbrev dktJ0_init_3_0 : List UInt8 := dkwJ0_init_3_0 ++ dktJ0_init_3_1
theorem dksJ0_init_3_0 : cJ0_init_3.data.toList.drop 0 = dktJ0_init_3_0 := by decide +kernel
theorem dksJ0_init_3_1 : cJ0_init_3.data.toList.drop 24 = dktJ0_init_3_1 := dk_seg dksJ0_init_3_0 24 rfl rfl
theorem dJ0_init_3_0 : decode cJ0_init_3 0 = .ok (.aload_n 0, 1) := dk_42 (dk_at dksJ0_init_3_0 0 rfl rfl)
theorem dJ0_init_3_1 : decode cJ0_init_3 1 = .ok (.invokespecial 1, 3) := dk_183 0 1 (dk_at dksJ0_init_3_0 1 rfl rfl)
theorem dJ0_init_3_4 : decode cJ0_init_3 4 = .ok (.aload_n 0, 1) := dk_42 (dk_at dksJ0_init_3_0 4 rfl rfl)
theorem dJ0_init_3_5 : decode cJ0_init_3 5 = .ok (.aload_n 0, 1) := dk_42 (dk_at dksJ0_init_3_0 5 rfl rfl)
theorem dJ0_init_3_6 : decode cJ0_init_3 6 = .ok (.putfield 7, 3) := dk_181 0 7 (dk_at dksJ0_init_3_0 6 rfl rfl)
theorem dJ0_init_3_9 : decode cJ0_init_3 9 = .ok (.aload_n 0, 1) := dk_42 (dk_at dksJ0_init_3_0 9 rfl rfl)
theorem dJ0_init_3_10 : decode cJ0_init_3 10 = .ok (.getstatic 13, 3) := dk_178 0 13 (dk_at dksJ0_init_3_0 10 rfl rfl)
theorem dJ0_init_3_13 : decode cJ0_init_3 13 = .ok (.putfield 17, 3) := dk_181 0 17 (dk_at dksJ0_init_3_0 13 rfl rfl)
theorem dJ0_init_3_16 : decode cJ0_init_3 16 = .ok (.aload_n 0, 1) := dk_42 (dk_at dksJ0_init_3_0 16 rfl rfl)
theorem dJ0_init_3_17 : decode cJ0_init_3 17 = .ok (.getstatic 20, 3) := dk_178 0 20 (dk_at dksJ0_init_3_0 17 rfl rfl)
theorem dJ0_init_3_20 : decode cJ0_init_3 20 = .ok (.putfield 24, 3) := dk_181 0 24 (dk_at dksJ0_init_3_0 20 rfl rfl)
theorem dJ0_init_3_23 : decode cJ0_init_3 23 = .ok (.aload_n 0, 1) := dk_42 (dk_at dksJ0_init_3_0 23 rfl rfl)
theorem dJ0_init_3_24 : decode cJ0_init_3 24 = .ok (.invokevirtual 27, 3) := dk_182 0 27 (dk_at dksJ0_init_3_1 0 rfl rfl)
theorem dJ0_init_3_27 : decode cJ0_init_3 27 = .ok (.pop, 1) := dk_87 (dk_at dksJ0_init_3_1 3 rfl rfl)
theorem dJ0_init_3_28 : decode cJ0_init_3 28 = .ok (.aload_n 0, 1) := dk_42 (dk_at dksJ0_init_3_1 4 rfl rfl)
theorem dJ0_init_3_29 : decode cJ0_init_3 29 = .ok (.aload_n 1, 1) := dk_43 (dk_at dksJ0_init_3_1 5 rfl rfl)
theorem dJ0_init_3_30 : decode cJ0_init_3 30 = .ok (.putfield 31, 3) := dk_181 0 31 (dk_at dksJ0_init_3_1 6 rfl rfl)
theorem dJ0_init_3_33 : decode cJ0_init_3 33 = .ok (.return_, 1) := dk_177 (dk_at dksJ0_init_3_1 9 rfl rfl)
theorem q117 : (Jvm.Cond.initialized "java/lang/Throwable") ∈ lw_all := lw_g (lw_at lw_m1 2 rfl) rfl
theorem q159 : (Jvm.Cond.declares ({ cls := "java/lang/Throwable", name := "<init>", desc := "()V" } : Jvm.MethodName)) ∈ lw_tbl := lw_at lw_m1 44 rfl
theorem q160 : (Jvm.Cond.declares ({ cls := "java/lang/Throwable", name := "<init>", desc := "(Ljava/lang/String;)V" } : Jvm.MethodName)) ∈ lw_tbl := lw_at lw_m1 45 rfl
theorem q164 : (Jvm.Cond.lays "java/lang/Throwable" "java/lang/Throwable" "cause" "Ljava/lang/Throwable;") ∈ lw_all := lw_g (lw_at lw_m1 49 rfl) rfl
theorem q166 : (Jvm.Cond.lays "java/lang/Throwable" "java/lang/Throwable" "stackTrace" "[Ljava/lang/StackTraceElement;") ∈ lw_all := lw_g (lw_at lw_m1 51 rfl) rfl
theorem q168 : (Jvm.Cond.lays "java/lang/Throwable" "java/lang/Throwable" "suppressedExceptions" "Ljava/util/List;") ∈ lw_all := lw_g (lw_at lw_m1 53 rfl) rfl
theorem q170 : (Jvm.Cond.lays "java/lang/Throwable" "java/lang/Throwable" "detailMessage" "Ljava/lang/String;") ∈ lw_all := lw_g (lw_at lw_m1 55 rfl) rfl
theorem q172 : (Jvm.Cond.lays "java/lang/Throwable" "java/lang/Throwable" "backtrace" "Ljava/lang/Object;") ∈ lw_all := lw_g (lw_at lw_m1 57 rfl) rfl
theorem q173 : (Jvm.Cond.fieldLink "java/lang/Throwable" (198 : Nat) "java/lang/Throwable" "backtrace" "Ljava/lang/Object;") ∈ lw_all := lw_g (lw_at lw_m1 58 rfl) rfl
theorem q174 : (Jvm.Cond.superclass "java/lang/Throwable" "java/lang/Object") ∈ lw_all := lw_g (lw_at lw_m1 59 rfl) rfl
theorem q175 : (Jvm.Cond.instanceMethod ({ cls := "java/lang/Throwable", name := "<init>", desc := "()V" } : Jvm.MethodName)) ∈ lw_all := lw_g (lw_at lw_m1 60 rfl) rfl
theorem q176 : (Jvm.Cond.code ({ cls := "java/lang/Throwable", name := "<init>", desc := "()V" } : Jvm.MethodName) prog_27_method_1_code (1 : Nat) (Option.none : Option Jvm.ClassFile.FieldType)) ∈ lw_all := lw_g (lw_at lw_m1 61 rfl) rfl
theorem q177 : (Jvm.Cond.methodLink "java/lang/Throwable" (1 : Nat) ({ cls := "java/lang/Object", name := "<init>", desc := "()V" } : Jvm.MethodName)) ∈ lw_all := lw_g (lw_at lw_m1 62 rfl) rfl
theorem q178 : (Jvm.Cond.fieldLink "java/lang/Throwable" (13 : Nat) "java/lang/Throwable" "UNASSIGNED_STACK" "[Ljava/lang/StackTraceElement;") ∈ lw_all := lw_g (lw_at lw_m1 63 rfl) rfl
theorem q179 : (Jvm.Cond.laysStatic "java/lang/Throwable" "UNASSIGNED_STACK" "[Ljava/lang/StackTraceElement;") ∈ lw_tbl := lw_at lw_m1 64 rfl
theorem q180 : (Jvm.Cond.fieldLink "java/lang/Throwable" (20 : Nat) "java/lang/Throwable" "SUPPRESSED_SENTINEL" "Ljava/util/List;") ∈ lw_all := lw_g (lw_at lw_m1 65 rfl) rfl
theorem q181 : (Jvm.Cond.laysStatic "java/lang/Throwable" "SUPPRESSED_SENTINEL" "Ljava/util/List;") ∈ lw_tbl := lw_at lw_m1 66 rfl
theorem q182 : (Jvm.Cond.methodLink "java/lang/Throwable" (27 : Nat) ({ cls := "java/lang/Throwable", name := "fillInStackTrace", desc := "()Ljava/lang/Throwable;" } : Jvm.MethodName)) ∈ lw_all := lw_g (lw_at lw_m1 67 rfl) rfl
theorem q183 : (Jvm.Cond.instanceMethod ({ cls := "java/lang/Throwable", name := "fillInStackTrace", desc := "()Ljava/lang/Throwable;" } : Jvm.MethodName)) ∈ lw_all := lw_g (lw_at lw_m1 68 rfl) rfl
theorem q184 : (Jvm.Cond.sameMethod "java/lang/Throwable" "java/lang/Throwable" "fillInStackTrace" "()Ljava/lang/Throwable;") ∈ lw_all := lw_g (lw_at lw_m1 69 rfl) rfl
theorem q197 : (Jvm.Cond.declares ({ cls := "java/lang/Throwable", name := "fillInStackTrace", desc := "()Ljava/lang/Throwable;" } : Jvm.MethodName)) ∈ lw_tbl := lw_at lw_m1 82 rfl
theorem q201 : (Jvm.Cond.codeSync ({ cls := "java/lang/Throwable", name := "fillInStackTrace", desc := "()Ljava/lang/Throwable;" } : Jvm.MethodName) prog_27_method_18_code (1 : Nat) (Option.some (Jvm.ClassFile.FieldType.object "java/lang/Throwable"))) ∈ lw_all := lw_g (lw_at lw_m1 86 rfl) rfl
theorem q202 : (Jvm.Cond.methodLink "java/lang/Throwable" (202 : Nat) ({ cls := "java/lang/Throwable", name := "fillInStackTrace", desc := "(I)Ljava/lang/Throwable;" } : Jvm.MethodName)) ∈ lw_all := lw_g (lw_at lw_m1 87 rfl) rfl
theorem q203 : (Jvm.Cond.privateMethod ({ cls := "java/lang/Throwable", name := "fillInStackTrace", desc := "(I)Ljava/lang/Throwable;" } : Jvm.MethodName)) ∈ lw_tbl := lw_at lw_m1 88 rfl
theorem q204 : (Jvm.Cond.instanceMethod ({ cls := "java/lang/Throwable", name := "fillInStackTrace", desc := "(I)Ljava/lang/Throwable;" } : Jvm.MethodName)) ∈ lw_all := lw_g (lw_at lw_m1 89 rfl) rfl
theorem q205 : (Jvm.Cond.instantiable "java/lang/Throwable" (6 : Nat)) ∈ lw_all := lw_g (lw_at lw_m1 90 rfl) rfl
theorem q206 : (Jvm.Cond.native ({ cls := "java/lang/Throwable", name := "fillInStackTrace", desc := "(I)Ljava/lang/Throwable;" } : Jvm.MethodName)) ∈ lw_all := lw_g (lw_at lw_m1 91 rfl) rfl
theorem q217 : (Jvm.Cond.instanceMethod ({ cls := "java/lang/Throwable", name := "<init>", desc := "(Ljava/lang/String;Ljava/lang/Throwable;ZZ)V" } : Jvm.MethodName)) ∈ lw_all := lw_g (lw_at lw_m1 102 rfl) rfl
theorem q218 : (Jvm.Cond.code ({ cls := "java/lang/Throwable", name := "<init>", desc := "(Ljava/lang/String;Ljava/lang/Throwable;ZZ)V" } : Jvm.MethodName) prog_27_method_5_code (5 : Nat) (Option.none : Option Jvm.ClassFile.FieldType)) ∈ lw_all := lw_g (lw_at lw_m1 103 rfl) rfl
theorem q223 : (Jvm.Cond.fieldLink "java/lang/Throwable" (198 : Nat) "java/lang/Throwable" "backtrace" "Ljava/lang/Object;") ∈ lw_all := lw_g (lw_at lw_m1 108 rfl) rfl
theorem q224 : (Jvm.Cond.fieldLink "java/lang/Throwable" (31 : Nat) "java/lang/Throwable" "detailMessage" "Ljava/lang/String;") ∈ lw_all := lw_g (lw_at lw_m1 109 rfl) rfl
theorem q225 : (Jvm.Cond.fieldLink "java/lang/Throwable" (7 : Nat) "java/lang/Throwable" "cause" "Ljava/lang/Throwable;") ∈ lw_all := lw_g (lw_at lw_m1 110 rfl) rfl
theorem q226 : (Jvm.Cond.fieldLink "java/lang/Throwable" (17 : Nat) "java/lang/Throwable" "stackTrace" "[Ljava/lang/StackTraceElement;") ∈ lw_all := lw_g (lw_at lw_m1 111 rfl) rfl
theorem q227 : (Jvm.Cond.fieldLink "java/lang/Throwable" (24 : Nat) "java/lang/Throwable" "suppressedExceptions" "Ljava/util/List;") ∈ lw_all := lw_g (lw_at lw_m1 112 rfl) rfl
theorem q232 : (Jvm.Cond.soleField "java/lang/Throwable" "backtrace") ∈ lw_all := lw_g (lw_at lw_m1 117 rfl) rfl
theorem q233 : (Jvm.Cond.soleField "java/lang/Throwable" "detailMessage") ∈ lw_all := lw_g (lw_at lw_m1 118 rfl) rfl
theorem q234 : (Jvm.Cond.soleField "java/lang/Throwable" "cause") ∈ lw_all := lw_g (lw_at lw_m1 119 rfl) rfl
theorem q235 : (Jvm.Cond.soleField "java/lang/Throwable" "stackTrace") ∈ lw_all := lw_g (lw_at lw_m1 120 rfl) rfl
theorem q237 : (Jvm.Cond.soleField "java/lang/Throwable" "depth") ∈ lw_all := lw_g (lw_at lw_m1 122 rfl) rfl
theorem q238 : (Jvm.Cond.soleField "java/lang/Throwable" "suppressedExceptions") ∈ lw_all := lw_g (lw_at lw_m1 123 rfl) rfl
theorem q548 : (Jvm.Cond.instanceMethod ({ cls := "java/lang/Throwable", name := "<init>", desc := "(Ljava/lang/String;)V" } : Jvm.MethodName)) ∈ lw_all := lw_g (lw_at lw_m2 193 rfl) rfl
theorem q549 : (Jvm.Cond.code ({ cls := "java/lang/Throwable", name := "<init>", desc := "(Ljava/lang/String;)V" } : Jvm.MethodName) prog_27_method_2_code (2 : Nat) (Option.none : Option Jvm.ClassFile.FieldType)) ∈ lw_all := lw_g (lw_at lw_m2 194 rfl) rfl
theorem q1867 : (Jvm.Cond.sameMethod "java/lang/Throwable" "java/lang/Throwable" "fillInStackTrace" "(I)Ljava/lang/Throwable;") ∈ lw_all := lw_g (lw_at lw_m8 72 rfl) rfl
theorem in_J0 : ∀ w ∈ wsJ00, w ∈ lw_all := lw_in wsJ00 [164, 166, 168, 170, 172] (by decide +kernel) (by decide +kernel)

/-! java/lang/Exception -/
set_option maxRecDepth 100000
def RJ1 : String := "java/lang/Exception"
abbrev cJ1_init : ByteArray := prog_17_method_5_code
def yJ1_init : MethodName := ⟨RJ1, "<init>", "(Ljava/lang/String;Ljava/lang/Throwable;ZZ)V"⟩
def dkwJ1_init_0 : List UInt8 := [42, 43, 44, 29, 21, 4, 183, 0, 16, 177]
abbrev dktJ1_init_0 : List UInt8 := dkwJ1_init_0 ++ []
theorem dksJ1_init_0 : cJ1_init.data.toList.drop 0 = dktJ1_init_0 := by decide +kernel
theorem dJ1_init_0 : decode cJ1_init 0 = .ok (.aload_n 0, 1) := dk_42 (dk_at dksJ1_init_0 0 rfl rfl)
theorem dJ1_init_1 : decode cJ1_init 1 = .ok (.aload_n 1, 1) := dk_43 (dk_at dksJ1_init_0 1 rfl rfl)
theorem dJ1_init_2 : decode cJ1_init 2 = .ok (.aload_n 2, 1) := dk_44 (dk_at dksJ1_init_0 2 rfl rfl)
theorem dJ1_init_3 : decode cJ1_init 3 = .ok (.iload_n 3, 1) := dk_29 (dk_at dksJ1_init_0 3 rfl rfl)
theorem dJ1_init_4 : decode cJ1_init 4 = .ok (.iload 4, 2) := dk_21 4 (dk_at dksJ1_init_0 4 rfl rfl)
theorem dJ1_init_6 : decode cJ1_init 6 = .ok (.invokespecial 16, 3) := dk_183 0 16 (dk_at dksJ1_init_0 6 rfl rfl)
theorem dJ1_init_9 : decode cJ1_init 9 = .ok (.return_, 1) := dk_177 (dk_at dksJ1_init_0 9 rfl rfl)
abbrev cJ1_init_2 : ByteArray := prog_17_method_2_code
def yJ1_init_2 : MethodName := ⟨RJ1, "<init>", "(Ljava/lang/String;)V"⟩
def dkwJ1_init_2_0 : List UInt8 := [42, 43, 183, 0, 7, 177]
abbrev dktJ1_init_2_0 : List UInt8 := dkwJ1_init_2_0 ++ []
theorem dksJ1_init_2_0 : cJ1_init_2.data.toList.drop 0 = dktJ1_init_2_0 := by decide +kernel
theorem dJ1_init_2_0 : decode cJ1_init_2 0 = .ok (.aload_n 0, 1) := dk_42 (dk_at dksJ1_init_2_0 0 rfl rfl)
theorem dJ1_init_2_1 : decode cJ1_init_2 1 = .ok (.aload_n 1, 1) := dk_43 (dk_at dksJ1_init_2_0 1 rfl rfl)
theorem dJ1_init_2_2 : decode cJ1_init_2 2 = .ok (.invokespecial 7, 3) := dk_183 0 7 (dk_at dksJ1_init_2_0 2 rfl rfl)
theorem dJ1_init_2_5 : decode cJ1_init_2 5 = .ok (.return_, 1) := dk_177 (dk_at dksJ1_init_2_0 5 rfl rfl)
abbrev cJ1_init_3 : ByteArray := prog_17_method_1_code
def yJ1_init_3 : MethodName := ⟨RJ1, "<init>", "()V"⟩
theorem dJ1_init_3_0 : decode cJ1_init_3 0 = .ok (.aload_n 0, 1) := by decide +kernel
theorem dJ1_init_3_1 : decode cJ1_init_3 1 = .ok (.invokespecial 1, 3) := by decide +kernel
theorem dJ1_init_3_4 : decode cJ1_init_3 4 = .ok (.return_, 1) := by decide +kernel
theorem q118 : (Jvm.Cond.initialized "java/lang/Exception") ∈ lw_all := lw_g (lw_at lw_m1 3 rfl) rfl
theorem q157 : (Jvm.Cond.declares ({ cls := "java/lang/Exception", name := "<init>", desc := "()V" } : Jvm.MethodName)) ∈ lw_tbl := lw_at lw_m1 42 rfl
theorem q158 : (Jvm.Cond.declares ({ cls := "java/lang/Exception", name := "<init>", desc := "(Ljava/lang/String;)V" } : Jvm.MethodName)) ∈ lw_tbl := lw_at lw_m1 43 rfl
theorem q200 : (Jvm.Cond.superclass "java/lang/Exception" "java/lang/Throwable") ∈ lw_all := lw_g (lw_at lw_m1 85 rfl) rfl
theorem q214 : (Jvm.Cond.instanceMethod ({ cls := "java/lang/Exception", name := "<init>", desc := "(Ljava/lang/String;Ljava/lang/Throwable;ZZ)V" } : Jvm.MethodName)) ∈ lw_all := lw_g (lw_at lw_m1 99 rfl) rfl
theorem q215 : (Jvm.Cond.code ({ cls := "java/lang/Exception", name := "<init>", desc := "(Ljava/lang/String;Ljava/lang/Throwable;ZZ)V" } : Jvm.MethodName) prog_17_method_5_code (5 : Nat) (Option.none : Option Jvm.ClassFile.FieldType)) ∈ lw_all := lw_g (lw_at lw_m1 100 rfl) rfl
theorem q216 : (Jvm.Cond.methodLink "java/lang/Exception" (16 : Nat) ({ cls := "java/lang/Throwable", name := "<init>", desc := "(Ljava/lang/String;Ljava/lang/Throwable;ZZ)V" } : Jvm.MethodName)) ∈ lw_all := lw_g (lw_at lw_m1 101 rfl) rfl
theorem q545 : (Jvm.Cond.instanceMethod ({ cls := "java/lang/Exception", name := "<init>", desc := "(Ljava/lang/String;)V" } : Jvm.MethodName)) ∈ lw_all := lw_g (lw_at lw_m2 190 rfl) rfl
theorem q546 : (Jvm.Cond.code ({ cls := "java/lang/Exception", name := "<init>", desc := "(Ljava/lang/String;)V" } : Jvm.MethodName) prog_17_method_2_code (2 : Nat) (Option.none : Option Jvm.ClassFile.FieldType)) ∈ lw_all := lw_g (lw_at lw_m2 191 rfl) rfl
theorem q547 : (Jvm.Cond.methodLink "java/lang/Exception" (7 : Nat) ({ cls := "java/lang/Throwable", name := "<init>", desc := "(Ljava/lang/String;)V" } : Jvm.MethodName)) ∈ lw_all := lw_g (lw_at lw_m2 192 rfl) rfl
theorem q587 : (Jvm.Cond.instanceMethod ({ cls := "java/lang/Exception", name := "<init>", desc := "()V" } : Jvm.MethodName)) ∈ lw_all := lw_g (lw_at lw_m2 232 rfl) rfl
theorem q588 : (Jvm.Cond.code ({ cls := "java/lang/Exception", name := "<init>", desc := "()V" } : Jvm.MethodName) prog_17_method_1_code (1 : Nat) (Option.none : Option Jvm.ClassFile.FieldType)) ∈ lw_all := lw_g (lw_at lw_m2 233 rfl) rfl
theorem q589 : (Jvm.Cond.methodLink "java/lang/Exception" (1 : Nat) ({ cls := "java/lang/Throwable", name := "<init>", desc := "()V" } : Jvm.MethodName)) ∈ lw_all := lw_g (lw_at lw_m2 234 rfl) rfl

/-! java/lang/RuntimeException -/
set_option maxRecDepth 100000
def RJ2 : String := "java/lang/RuntimeException"
abbrev cJ2_init : ByteArray := prog_22_method_5_code
def yJ2_init : MethodName := ⟨RJ2, "<init>", "(Ljava/lang/String;Ljava/lang/Throwable;ZZ)V"⟩
def dkwJ2_init_0 : List UInt8 := [42, 43, 44, 29, 21, 4, 183, 0, 16, 177]
abbrev dktJ2_init_0 : List UInt8 := dkwJ2_init_0 ++ []
theorem dksJ2_init_0 : cJ2_init.data.toList.drop 0 = dktJ2_init_0 := by decide +kernel
theorem dJ2_init_0 : decode cJ2_init 0 = .ok (.aload_n 0, 1) := dk_42 (dk_at dksJ2_init_0 0 rfl rfl)
theorem dJ2_init_1 : decode cJ2_init 1 = .ok (.aload_n 1, 1) := dk_43 (dk_at dksJ2_init_0 1 rfl rfl)
theorem dJ2_init_2 : decode cJ2_init 2 = .ok (.aload_n 2, 1) := dk_44 (dk_at dksJ2_init_0 2 rfl rfl)
theorem dJ2_init_3 : decode cJ2_init 3 = .ok (.iload_n 3, 1) := dk_29 (dk_at dksJ2_init_0 3 rfl rfl)
theorem dJ2_init_4 : decode cJ2_init 4 = .ok (.iload 4, 2) := dk_21 4 (dk_at dksJ2_init_0 4 rfl rfl)
theorem dJ2_init_6 : decode cJ2_init 6 = .ok (.invokespecial 16, 3) := dk_183 0 16 (dk_at dksJ2_init_0 6 rfl rfl)
theorem dJ2_init_9 : decode cJ2_init 9 = .ok (.return_, 1) := dk_177 (dk_at dksJ2_init_0 9 rfl rfl)
abbrev cJ2_init_2 : ByteArray := prog_22_method_2_code
def yJ2_init_2 : MethodName := ⟨RJ2, "<init>", "(Ljava/lang/String;)V"⟩
def dkwJ2_init_2_0 : List UInt8 := [42, 43, 183, 0, 7, 177]
abbrev dktJ2_init_2_0 : List UInt8 := dkwJ2_init_2_0 ++ []
theorem dksJ2_init_2_0 : cJ2_init_2.data.toList.drop 0 = dktJ2_init_2_0 := by decide +kernel
theorem dJ2_init_2_0 : decode cJ2_init_2 0 = .ok (.aload_n 0, 1) := dk_42 (dk_at dksJ2_init_2_0 0 rfl rfl)
theorem dJ2_init_2_1 : decode cJ2_init_2 1 = .ok (.aload_n 1, 1) := dk_43 (dk_at dksJ2_init_2_0 1 rfl rfl)
theorem dJ2_init_2_2 : decode cJ2_init_2 2 = .ok (.invokespecial 7, 3) := dk_183 0 7 (dk_at dksJ2_init_2_0 2 rfl rfl)
theorem dJ2_init_2_5 : decode cJ2_init_2 5 = .ok (.return_, 1) := dk_177 (dk_at dksJ2_init_2_0 5 rfl rfl)
abbrev cJ2_init_3 : ByteArray := prog_22_method_1_code
def yJ2_init_3 : MethodName := ⟨RJ2, "<init>", "()V"⟩
theorem dJ2_init_3_0 : decode cJ2_init_3 0 = .ok (.aload_n 0, 1) := by decide +kernel
theorem dJ2_init_3_1 : decode cJ2_init_3 1 = .ok (.invokespecial 1, 3) := by decide +kernel
theorem dJ2_init_3_4 : decode cJ2_init_3 4 = .ok (.return_, 1) := by decide +kernel
theorem q119 : (Jvm.Cond.initialized "java/lang/RuntimeException") ∈ lw_all := lw_g (lw_at lw_m1 4 rfl) rfl
theorem q155 : (Jvm.Cond.declares ({ cls := "java/lang/RuntimeException", name := "<init>", desc := "()V" } : Jvm.MethodName)) ∈ lw_tbl := lw_at lw_m1 40 rfl
theorem q156 : (Jvm.Cond.declares ({ cls := "java/lang/RuntimeException", name := "<init>", desc := "(Ljava/lang/String;)V" } : Jvm.MethodName)) ∈ lw_tbl := lw_at lw_m1 41 rfl
theorem q196 : (Jvm.Cond.sameMethod "java/lang/RuntimeException" "java/lang/Throwable" "fillInStackTrace" "()Ljava/lang/Throwable;") ∈ lw_all := lw_g (lw_at lw_m1 81 rfl) rfl
theorem q199 : (Jvm.Cond.superclass "java/lang/RuntimeException" "java/lang/Exception") ∈ lw_all := lw_g (lw_at lw_m1 84 rfl) rfl
theorem q211 : (Jvm.Cond.instanceMethod ({ cls := "java/lang/RuntimeException", name := "<init>", desc := "(Ljava/lang/String;Ljava/lang/Throwable;ZZ)V" } : Jvm.MethodName)) ∈ lw_all := lw_g (lw_at lw_m1 96 rfl) rfl
theorem q212 : (Jvm.Cond.code ({ cls := "java/lang/RuntimeException", name := "<init>", desc := "(Ljava/lang/String;Ljava/lang/Throwable;ZZ)V" } : Jvm.MethodName) prog_22_method_5_code (5 : Nat) (Option.none : Option Jvm.ClassFile.FieldType)) ∈ lw_all := lw_g (lw_at lw_m1 97 rfl) rfl
theorem q213 : (Jvm.Cond.methodLink "java/lang/RuntimeException" (16 : Nat) ({ cls := "java/lang/Exception", name := "<init>", desc := "(Ljava/lang/String;Ljava/lang/Throwable;ZZ)V" } : Jvm.MethodName)) ∈ lw_all := lw_g (lw_at lw_m1 98 rfl) rfl
theorem q542 : (Jvm.Cond.instanceMethod ({ cls := "java/lang/RuntimeException", name := "<init>", desc := "(Ljava/lang/String;)V" } : Jvm.MethodName)) ∈ lw_all := lw_g (lw_at lw_m2 187 rfl) rfl
theorem q543 : (Jvm.Cond.code ({ cls := "java/lang/RuntimeException", name := "<init>", desc := "(Ljava/lang/String;)V" } : Jvm.MethodName) prog_22_method_2_code (2 : Nat) (Option.none : Option Jvm.ClassFile.FieldType)) ∈ lw_all := lw_g (lw_at lw_m2 188 rfl) rfl
theorem q544 : (Jvm.Cond.methodLink "java/lang/RuntimeException" (7 : Nat) ({ cls := "java/lang/Exception", name := "<init>", desc := "(Ljava/lang/String;)V" } : Jvm.MethodName)) ∈ lw_all := lw_g (lw_at lw_m2 189 rfl) rfl
theorem q584 : (Jvm.Cond.instanceMethod ({ cls := "java/lang/RuntimeException", name := "<init>", desc := "()V" } : Jvm.MethodName)) ∈ lw_all := lw_g (lw_at lw_m2 229 rfl) rfl
theorem q585 : (Jvm.Cond.code ({ cls := "java/lang/RuntimeException", name := "<init>", desc := "()V" } : Jvm.MethodName) prog_22_method_1_code (1 : Nat) (Option.none : Option Jvm.ClassFile.FieldType)) ∈ lw_all := lw_g (lw_at lw_m2 230 rfl) rfl
theorem q586 : (Jvm.Cond.methodLink "java/lang/RuntimeException" (1 : Nat) ({ cls := "java/lang/Exception", name := "<init>", desc := "()V" } : Jvm.MethodName)) ∈ lw_all := lw_g (lw_at lw_m2 231 rfl) rfl
theorem q604 : (Jvm.Cond.castable "java/lang/RuntimeException" "java/lang/Throwable") ∈ lw_tbl := lw_at lw_m3 9 rfl

/-! TwoSeek$Wrong -/
set_option maxRecDepth 100000
def RX1 : String := "TwoSeek$Wrong"
def TX1 : u_T := fun k => match k with
  | 0 => ("java/lang/Throwable", "cause", "Ljava/lang/Throwable;", false)
  | 1 => ("java/lang/Throwable", "stackTrace", "[Ljava/lang/StackTraceElement;", false)
  | 2 => ("java/lang/Throwable", "suppressedExceptions", "Ljava/util/List;", false)
  | 3 => ("java/lang/Throwable", "detailMessage", "Ljava/lang/String;", false)
  | 4 => ("java/lang/Throwable", "backtrace", "Ljava/lang/Object;", false)
  | 5 => ("java/lang/Throwable", "depth", "I", false)
  | 6 => ("TwoSeek$Wrong", "kind", "I", false)
  | _ => ("TwoSeek$Wrong", "place", "I", false)
def tyX1 : Nat → FieldType := fun k => match k with
  | 0 => .object "java/lang/Throwable"
  | 1 => .array (.object "java/lang/StackTraceElement")
  | 2 => .object "java/util/List"
  | 3 => .object "java/lang/String"
  | 4 => .object "java/lang/Object"
  | 5 => .int
  | 6 => .int
  | _ => .int
abbrev wsX10 : List Cond := u_ws RX1 TX1 8
theorem nmX1 : ∀ a, a < 8 → ∀ b, b < 8 → a ≠ b → (TX1 a).2.1 ≠ (TX1 b).2.1 := by decide +kernel
theorem tyX1_ok : ∀ k, k < 8 → parseFieldDescriptor (TX1 k).2.2.1 = some (tyX1 k) := by decide +kernel
abbrev cX1_init : ByteArray := prog_13_method_1_code
def yX1_init : MethodName := ⟨RX1, "<init>", "()V"⟩
def dkwX1_init_0 : List UInt8 := [42, 1, 1, 3, 3, 183, 0, 1, 177]
abbrev dktX1_init_0 : List UInt8 := dkwX1_init_0 ++ []
theorem dksX1_init_0 : cX1_init.data.toList.drop 0 = dktX1_init_0 := by decide +kernel
theorem dX1_init_0 : decode cX1_init 0 = .ok (.aload_n 0, 1) := dk_42 (dk_at dksX1_init_0 0 rfl rfl)
theorem dX1_init_1 : decode cX1_init 1 = .ok (.aconst_null, 1) := dk_1 (dk_at dksX1_init_0 1 rfl rfl)
theorem dX1_init_2 : decode cX1_init 2 = .ok (.aconst_null, 1) := dk_1 (dk_at dksX1_init_0 2 rfl rfl)
theorem dX1_init_3 : decode cX1_init 3 = .ok (.iconst 0, 1) := dk_3 (dk_at dksX1_init_0 3 rfl rfl)
theorem dX1_init_4 : decode cX1_init 4 = .ok (.iconst 0, 1) := dk_3 (dk_at dksX1_init_0 4 rfl rfl)
theorem dX1_init_5 : decode cX1_init 5 = .ok (.invokespecial 1, 3) := dk_183 0 1 (dk_at dksX1_init_0 5 rfl rfl)
theorem dX1_init_8 : decode cX1_init 8 = .ok (.return_, 1) := dk_177 (dk_at dksX1_init_0 8 rfl rfl)
abbrev cX1_of : ByteArray := prog_13_method_2_code
def yX1_of : MethodName := ⟨RX1, "of", "(II)LTwoSeek$Wrong;"⟩
def dkwX1_of_0 : List UInt8 := [42, 27, 181, 0, 7, 42, 28, 181, 0, 13, 42, 176]
abbrev dktX1_of_0 : List UInt8 := dkwX1_of_0 ++ []
theorem dksX1_of_0 : cX1_of.data.toList.drop 0 = dktX1_of_0 := by decide +kernel
theorem dX1_of_0 : decode cX1_of 0 = .ok (.aload_n 0, 1) := dk_42 (dk_at dksX1_of_0 0 rfl rfl)
theorem dX1_of_1 : decode cX1_of 1 = .ok (.iload_n 1, 1) := dk_27 (dk_at dksX1_of_0 1 rfl rfl)
theorem dX1_of_2 : decode cX1_of 2 = .ok (.putfield 7, 3) := dk_181 0 7 (dk_at dksX1_of_0 2 rfl rfl)
theorem dX1_of_5 : decode cX1_of 5 = .ok (.aload_n 0, 1) := dk_42 (dk_at dksX1_of_0 5 rfl rfl)
theorem dX1_of_6 : decode cX1_of 6 = .ok (.iload_n 2, 1) := dk_28 (dk_at dksX1_of_0 6 rfl rfl)
theorem dX1_of_7 : decode cX1_of 7 = .ok (.putfield 13, 3) := dk_181 0 13 (dk_at dksX1_of_0 7 rfl rfl)
theorem dX1_of_10 : decode cX1_of 10 = .ok (.aload_n 0, 1) := dk_42 (dk_at dksX1_of_0 10 rfl rfl)
theorem dX1_of_11 : decode cX1_of 11 = .ok (.areturn, 1) := dk_176 (dk_at dksX1_of_0 11 rfl rfl)
theorem q120 : (Jvm.Cond.initialized "TwoSeek$Wrong") ∈ lw_all := lw_g (lw_at lw_m1 5 rfl) rfl
theorem q153 : (Jvm.Cond.instantiable "TwoSeek$Wrong" (8 : Nat)) ∈ lw_all := lw_g (lw_at lw_m1 38 rfl) rfl
theorem q154 : (Jvm.Cond.castable "TwoSeek$Wrong" "TwoSeek$Wrong") ∈ lw_tbl := lw_at lw_m1 39 rfl
theorem q161 : (Jvm.Cond.selects "TwoSeek$Wrong" ({ cls := "java/lang/Throwable", name := "fillInStackTrace", desc := "(I)Ljava/lang/Throwable;" } : Jvm.MethodName) ({ cls := "java/lang/Throwable", name := "fillInStackTrace", desc := "(I)Ljava/lang/Throwable;" } : Jvm.MethodName)) ∈ lw_all := lw_g (lw_at lw_m1 46 rfl) rfl
theorem q162 : (Jvm.Cond.selects "TwoSeek$Wrong" ({ cls := "java/lang/Throwable", name := "fillInStackTrace", desc := "()Ljava/lang/Throwable;" } : Jvm.MethodName) ({ cls := "java/lang/Throwable", name := "fillInStackTrace", desc := "()Ljava/lang/Throwable;" } : Jvm.MethodName)) ∈ lw_all := lw_g (lw_at lw_m1 47 rfl) rfl
theorem q163 : (Jvm.Cond.lays "TwoSeek$Wrong" "java/lang/Throwable" "cause" "Ljava/lang/Throwable;") ∈ lw_all := lw_g (lw_at lw_m1 48 rfl) rfl
theorem q165 : (Jvm.Cond.lays "TwoSeek$Wrong" "java/lang/Throwable" "stackTrace" "[Ljava/lang/StackTraceElement;") ∈ lw_all := lw_g (lw_at lw_m1 50 rfl) rfl
theorem q167 : (Jvm.Cond.lays "TwoSeek$Wrong" "java/lang/Throwable" "suppressedExceptions" "Ljava/util/List;") ∈ lw_all := lw_g (lw_at lw_m1 52 rfl) rfl
theorem q169 : (Jvm.Cond.lays "TwoSeek$Wrong" "java/lang/Throwable" "detailMessage" "Ljava/lang/String;") ∈ lw_all := lw_g (lw_at lw_m1 54 rfl) rfl
theorem q171 : (Jvm.Cond.lays "TwoSeek$Wrong" "java/lang/Throwable" "backtrace" "Ljava/lang/Object;") ∈ lw_all := lw_g (lw_at lw_m1 56 rfl) rfl
theorem q208 : (Jvm.Cond.instanceMethod ({ cls := "TwoSeek$Wrong", name := "<init>", desc := "()V" } : Jvm.MethodName)) ∈ lw_all := lw_g (lw_at lw_m1 93 rfl) rfl
theorem q209 : (Jvm.Cond.code ({ cls := "TwoSeek$Wrong", name := "<init>", desc := "()V" } : Jvm.MethodName) prog_13_method_1_code (1 : Nat) (Option.none : Option Jvm.ClassFile.FieldType)) ∈ lw_all := lw_g (lw_at lw_m1 94 rfl) rfl
theorem q210 : (Jvm.Cond.methodLink "TwoSeek$Wrong" (1 : Nat) ({ cls := "java/lang/RuntimeException", name := "<init>", desc := "(Ljava/lang/String;Ljava/lang/Throwable;ZZ)V" } : Jvm.MethodName)) ∈ lw_all := lw_g (lw_at lw_m1 95 rfl) rfl
theorem q219 : (Jvm.Cond.fieldLink "TwoSeek$Wrong" (7 : Nat) "TwoSeek$Wrong" "kind" "I") ∈ lw_all := lw_g (lw_at lw_m1 104 rfl) rfl
theorem q221 : (Jvm.Cond.fieldLink "TwoSeek$Wrong" (13 : Nat) "TwoSeek$Wrong" "place" "I") ∈ lw_all := lw_g (lw_at lw_m1 106 rfl) rfl
theorem q228 : (Jvm.Cond.lays "TwoSeek$Wrong" "TwoSeek$Wrong" "kind" "I") ∈ lw_all := lw_g (lw_at lw_m1 113 rfl) rfl
theorem q229 : (Jvm.Cond.soleField "TwoSeek$Wrong" "kind") ∈ lw_all := lw_g (lw_at lw_m1 114 rfl) rfl
theorem q230 : (Jvm.Cond.lays "TwoSeek$Wrong" "TwoSeek$Wrong" "place" "I") ∈ lw_all := lw_g (lw_at lw_m1 115 rfl) rfl
theorem q231 : (Jvm.Cond.soleField "TwoSeek$Wrong" "place") ∈ lw_all := lw_g (lw_at lw_m1 116 rfl) rfl
theorem q236 : (Jvm.Cond.lays "TwoSeek$Wrong" "java/lang/Throwable" "depth" "I") ∈ lw_all := lw_g (lw_at lw_m1 121 rfl) rfl
theorem q239 : (Jvm.Cond.superclass "TwoSeek$Wrong" "java/lang/RuntimeException") ∈ lw_all := lw_g (lw_at lw_m1 124 rfl) rfl
theorem q758 : (Jvm.Cond.instanceMethod ({ cls := "TwoSeek$Wrong", name := "of", desc := "(II)LTwoSeek$Wrong;" } : Jvm.MethodName)) ∈ lw_all := lw_g (lw_at lw_m3 163 rfl) rfl
theorem q759 : (Jvm.Cond.selects "TwoSeek$Wrong" ({ cls := "TwoSeek$Wrong", name := "of", desc := "(II)LTwoSeek$Wrong;" } : Jvm.MethodName) ({ cls := "TwoSeek$Wrong", name := "of", desc := "(II)LTwoSeek$Wrong;" } : Jvm.MethodName)) ∈ lw_all := lw_g (lw_at lw_m3 164 rfl) rfl
theorem q760 : (Jvm.Cond.code ({ cls := "TwoSeek$Wrong", name := "of", desc := "(II)LTwoSeek$Wrong;" } : Jvm.MethodName) prog_13_method_2_code (3 : Nat) (Option.some (Jvm.ClassFile.FieldType.object "TwoSeek$Wrong"))) ∈ lw_all := lw_g (lw_at lw_m3 165 rfl) rfl
theorem in_X1 : ∀ w ∈ wsX10, w ∈ lw_all := lw_in wsX10 [163, 165, 167, 169, 171, 236, 228, 230] (by decide +kernel) (by decide +kernel)

/-! TwoSeek$Reader -/
set_option maxRecDepth 100000
def RX2 : String := "TwoSeek$Reader"
def TX2 : u_T := fun k => match k with
  | 0 => ("TwoSeek$Reader", "tape", "[B", true)
  | 1 => ("TwoSeek$Reader", "taped", "I", false)
  | 2 => ("TwoSeek$Reader", "size", "I", false)
  | 3 => ("TwoSeek$Reader", "sort", "I", false)
  | 4 => ("TwoSeek$Reader", "from", "I", false)
  | 5 => ("TwoSeek$Reader", "end", "I", false)
  | 6 => ("TwoSeek$Reader", "value", "I", false)
  | 7 => ("TwoSeek$Reader", "told", "I", false)
  | 8 => ("TwoSeek$Reader", "town", "LTwoSeek$Town;", false)
  | _ => ("TwoSeek$Reader", "wrong", "LTwoSeek$Wrong;", true)
def tyX2 : Nat → FieldType := fun k => match k with
  | 0 => .array .byte
  | 1 => .int
  | 2 => .int
  | 3 => .int
  | 4 => .int
  | 5 => .int
  | 6 => .int
  | 7 => .int
  | 8 => .object "TwoSeek$Town"
  | _ => .object "TwoSeek$Wrong"
abbrev wsX20 : List Cond := u_ws RX2 TX2 10
theorem nmX2 : ∀ a, a < 10 → ∀ b, b < 10 → a ≠ b → (TX2 a).2.1 ≠ (TX2 b).2.1 := by decide +kernel
theorem tyX2_ok : ∀ k, k < 10 → parseFieldDescriptor (TX2 k).2.2.1 = some (tyX2 k) := by decide +kernel
abbrev cX2_init : ByteArray := prog_7_method_1_code
def yX2_init : MethodName := ⟨RX2, "<init>", "(LTwoSeek$Wrong;)V"⟩
def dkwX2_init_0 : List UInt8 := [42, 183, 0, 3, 42, 17, 1, 244, 188, 8, 181, 0, 9, 42, 43, 181, 0, 15, 177]
abbrev dktX2_init_0 : List UInt8 := dkwX2_init_0 ++ []
theorem dksX2_init_0 : cX2_init.data.toList.drop 0 = dktX2_init_0 := by decide +kernel
theorem dX2_init_0 : decode cX2_init 0 = .ok (.aload_n 0, 1) := dk_42 (dk_at dksX2_init_0 0 rfl rfl)
theorem dX2_init_1 : decode cX2_init 1 = .ok (.invokespecial 3, 3) := dk_183 0 3 (dk_at dksX2_init_0 1 rfl rfl)
theorem dX2_init_4 : decode cX2_init 4 = .ok (.aload_n 0, 1) := dk_42 (dk_at dksX2_init_0 4 rfl rfl)
theorem dX2_init_5 : decode cX2_init 5 = .ok (.sipush 500, 3) := dk_17 1 244 (dk_at dksX2_init_0 5 rfl rfl)
theorem dX2_init_8 : decode cX2_init 8 = .ok (.newarray .byte, 2) := dk_188_8 (dk_at dksX2_init_0 8 rfl rfl)
theorem dX2_init_10 : decode cX2_init 10 = .ok (.putfield 9, 3) := dk_181 0 9 (dk_at dksX2_init_0 10 rfl rfl)
theorem dX2_init_13 : decode cX2_init 13 = .ok (.aload_n 0, 1) := dk_42 (dk_at dksX2_init_0 13 rfl rfl)
theorem dX2_init_14 : decode cX2_init 14 = .ok (.aload_n 1, 1) := dk_43 (dk_at dksX2_init_0 14 rfl rfl)
theorem dX2_init_15 : decode cX2_init 15 = .ok (.putfield 15, 3) := dk_181 0 15 (dk_at dksX2_init_0 15 rfl rfl)
theorem dX2_init_18 : decode cX2_init 18 = .ok (.return_, 1) := dk_177 (dk_at dksX2_init_0 18 rfl rfl)
abbrev cX2_read : ByteArray := prog_7_method_12_code
def yX2_read : MethodName := ⟨RX2, "read", "(I)LTwoSeek$Town;"⟩
def dkwX2_read_2 : List UInt8 := [160, 0, 7, 4, 167, 0, 4, 3, 182, 0, 81, 42, 182, 0, 85, 167, 255, 224, 42, 180, 0, 94, 176]
abbrev dktX2_read_2 : List UInt8 := dkwX2_read_2 ++ []
def dkwX2_read_1 : List UInt8 := [181, 0, 94, 42, 182, 0, 85, 42, 180, 0, 36, 153, 0, 31, 42, 182, 0, 98, 42, 42, 180, 0, 36, 7]
abbrev dktX2_read_1 : List UInt8 := dkwX2_read_1 ++ dktX2_read_2
def dkwX2_read_0 : List UInt8 := [42, 27, 181, 0, 19, 42, 3, 181, 0, 23, 42, 3, 181, 0, 88, 42, 187, 0, 91, 89, 183, 0, 93]
abbrev dktX2_read_0 : List UInt8 := dkwX2_read_0 ++ dktX2_read_1
theorem dksX2_read_0 : cX2_read.data.toList.drop 0 = dktX2_read_0 := by decide +kernel
theorem dksX2_read_1 : cX2_read.data.toList.drop 23 = dktX2_read_1 := dk_seg dksX2_read_0 23 rfl rfl
theorem dksX2_read_2 : cX2_read.data.toList.drop 47 = dktX2_read_2 := dk_seg dksX2_read_1 24 rfl rfl
theorem dX2_read_0 : decode cX2_read 0 = .ok (.aload_n 0, 1) := dk_42 (dk_at dksX2_read_0 0 rfl rfl)
theorem dX2_read_1 : decode cX2_read 1 = .ok (.iload_n 1, 1) := dk_27 (dk_at dksX2_read_0 1 rfl rfl)
theorem dX2_read_2 : decode cX2_read 2 = .ok (.putfield 19, 3) := dk_181 0 19 (dk_at dksX2_read_0 2 rfl rfl)
theorem dX2_read_5 : decode cX2_read 5 = .ok (.aload_n 0, 1) := dk_42 (dk_at dksX2_read_0 5 rfl rfl)
theorem dX2_read_6 : decode cX2_read 6 = .ok (.iconst 0, 1) := dk_3 (dk_at dksX2_read_0 6 rfl rfl)
theorem dX2_read_7 : decode cX2_read 7 = .ok (.putfield 23, 3) := dk_181 0 23 (dk_at dksX2_read_0 7 rfl rfl)
theorem dX2_read_10 : decode cX2_read 10 = .ok (.aload_n 0, 1) := dk_42 (dk_at dksX2_read_0 10 rfl rfl)
theorem dX2_read_11 : decode cX2_read 11 = .ok (.iconst 0, 1) := dk_3 (dk_at dksX2_read_0 11 rfl rfl)
theorem dX2_read_12 : decode cX2_read 12 = .ok (.putfield 88, 3) := dk_181 0 88 (dk_at dksX2_read_0 12 rfl rfl)
theorem dX2_read_15 : decode cX2_read 15 = .ok (.aload_n 0, 1) := dk_42 (dk_at dksX2_read_0 15 rfl rfl)
theorem dX2_read_16 : decode cX2_read 16 = .ok (.new 91, 3) := dk_187 0 91 (dk_at dksX2_read_0 16 rfl rfl)
theorem dX2_read_19 : decode cX2_read 19 = .ok (.dup, 1) := dk_89 (dk_at dksX2_read_0 19 rfl rfl)
theorem dX2_read_20 : decode cX2_read 20 = .ok (.invokespecial 93, 3) := dk_183 0 93 (dk_at dksX2_read_0 20 rfl rfl)
theorem dX2_read_23 : decode cX2_read 23 = .ok (.putfield 94, 3) := dk_181 0 94 (dk_at dksX2_read_1 0 rfl rfl)
theorem dX2_read_26 : decode cX2_read 26 = .ok (.aload_n 0, 1) := dk_42 (dk_at dksX2_read_1 3 rfl rfl)
theorem dX2_read_27 : decode cX2_read 27 = .ok (.invokevirtual 85, 3) := dk_182 0 85 (dk_at dksX2_read_1 4 rfl rfl)
theorem dX2_read_30 : decode cX2_read 30 = .ok (.aload_n 0, 1) := dk_42 (dk_at dksX2_read_1 7 rfl rfl)
theorem dX2_read_31 : decode cX2_read 31 = .ok (.getfield 36, 3) := dk_180 0 36 (dk_at dksX2_read_1 8 rfl rfl)
theorem dX2_read_34 : decode cX2_read 34 = .ok (.ifCond .eq 31, 3) := dk_153 0 31 (dk_at dksX2_read_1 11 rfl rfl)
theorem dX2_read_37 : decode cX2_read 37 = .ok (.aload_n 0, 1) := dk_42 (dk_at dksX2_read_1 14 rfl rfl)
theorem dX2_read_38 : decode cX2_read 38 = .ok (.invokevirtual 98, 3) := dk_182 0 98 (dk_at dksX2_read_1 15 rfl rfl)
theorem dX2_read_41 : decode cX2_read 41 = .ok (.aload_n 0, 1) := dk_42 (dk_at dksX2_read_1 18 rfl rfl)
theorem dX2_read_42 : decode cX2_read 42 = .ok (.aload_n 0, 1) := dk_42 (dk_at dksX2_read_1 19 rfl rfl)
theorem dX2_read_43 : decode cX2_read 43 = .ok (.getfield 36, 3) := dk_180 0 36 (dk_at dksX2_read_1 20 rfl rfl)
theorem dX2_read_46 : decode cX2_read 46 = .ok (.iconst 4, 1) := dk_7 (dk_at dksX2_read_1 23 rfl rfl)
theorem dX2_read_47 : decode cX2_read 47 = .ok (.if_icmp .ne 7, 3) := dk_160 0 7 (dk_at dksX2_read_2 0 rfl rfl)
theorem dX2_read_50 : decode cX2_read 50 = .ok (.iconst 1, 1) := dk_4 (dk_at dksX2_read_2 3 rfl rfl)
theorem dX2_read_51 : decode cX2_read 51 = .ok (.goto 4, 3) := dk_167 0 4 (dk_at dksX2_read_2 4 rfl rfl)
theorem dX2_read_54 : decode cX2_read 54 = .ok (.iconst 0, 1) := dk_3 (dk_at dksX2_read_2 7 rfl rfl)
theorem dX2_read_55 : decode cX2_read 55 = .ok (.invokevirtual 81, 3) := dk_182 0 81 (dk_at dksX2_read_2 8 rfl rfl)
theorem dX2_read_58 : decode cX2_read 58 = .ok (.aload_n 0, 1) := dk_42 (dk_at dksX2_read_2 11 rfl rfl)
theorem dX2_read_59 : decode cX2_read 59 = .ok (.invokevirtual 85, 3) := dk_182 0 85 (dk_at dksX2_read_2 12 rfl rfl)
theorem dX2_read_62 : decode cX2_read 62 = .ok (.goto (-32), 3) := dk_167 255 224 (dk_at dksX2_read_2 15 rfl rfl)
theorem dX2_read_65 : decode cX2_read 65 = .ok (.aload_n 0, 1) := dk_42 (dk_at dksX2_read_2 18 rfl rfl)
theorem dX2_read_66 : decode cX2_read 66 = .ok (.getfield 94, 3) := dk_180 0 94 (dk_at dksX2_read_2 19 rfl rfl)
theorem dX2_read_69 : decode cX2_read 69 = .ok (.areturn, 1) := dk_176 (dk_at dksX2_read_2 22 rfl rfl)
abbrev cX2_next : ByteArray := prog_7_method_5_code
def yX2_next : MethodName := ⟨RX2, "next", "()V"⟩
def dkwX2_next_10 : List UInt8 := [177]
abbrev dktX2_next_10 : List UInt8 := dkwX2_next_10 ++ []
def dkwX2_next_9 : List UInt8 := [89, 180, 0, 23, 4, 96, 181, 0, 23, 42, 27, 16, 59, 160, 0, 7, 7, 167, 0, 4, 4, 181, 0, 36]
abbrev dktX2_next_9 : List UInt8 := dkwX2_next_9 ++ dktX2_next_10
def dkwX2_next_8 : List UInt8 := [180, 0, 23, 42, 180, 0, 30, 100, 5, 164, 0, 7, 4, 167, 0, 4, 6, 181, 0, 36, 167, 0, 28, 42]
abbrev dktX2_next_8 : List UInt8 := dkwX2_next_8 ++ dktX2_next_9
def dkwX2_next_7 : List UInt8 := [16, 48, 100, 184, 0, 46, 181, 0, 33, 42, 89, 180, 0, 23, 4, 96, 181, 0, 23, 167, 255, 203, 42, 42]
abbrev dktX2_next_7 : List UInt8 := dkwX2_next_7 ++ dktX2_next_8
def dkwX2_next_6 : List UInt8 := [153, 0, 45, 42, 17, 3, 232, 16, 10, 42, 180, 0, 33, 104, 42, 42, 180, 0, 23, 182, 0, 26, 96]
abbrev dktX2_next_6 : List UInt8 := dkwX2_next_6 ++ dktX2_next_7
def dkwX2_next_5 : List UInt8 := [184, 0, 43, 153, 0, 89, 42, 3, 181, 0, 33, 42, 42, 180, 0, 23, 182, 0, 26, 184, 0, 43]
abbrev dktX2_next_5 : List UInt8 := dkwX2_next_5 ++ dktX2_next_6
def dkwX2_next_4 : List UInt8 := [42, 89, 180, 0, 23, 4, 96, 181, 0, 23, 167, 255, 232, 42, 5, 181, 0, 36, 167, 0, 121, 27]
abbrev dktX2_next_4 : List UInt8 := dkwX2_next_4 ++ dktX2_next_5
def dkwX2_next_3 : List UInt8 := [167, 0, 163, 27, 184, 0, 39, 153, 0, 38, 42, 42, 180, 0, 23, 182, 0, 26, 184, 0, 39, 153, 0, 16]
abbrev dktX2_next_3 : List UInt8 := dkwX2_next_3 ++ dktX2_next_4
def dkwX2_next_2 : List UInt8 := [42, 42, 180, 0, 23, 182, 0, 26, 60, 42, 27, 181, 0, 33, 27, 2, 160, 0, 11, 42, 3, 181, 0, 36]
abbrev dktX2_next_2 : List UInt8 := dkwX2_next_2 ++ dktX2_next_3
def dkwX2_next_1 : List UInt8 := [160, 0, 16, 42, 89, 180, 0, 23, 4, 96, 181, 0, 23, 167, 255, 220, 42, 42, 180, 0, 23, 181, 0, 30]
abbrev dktX2_next_1 : List UInt8 := dkwX2_next_1 ++ dktX2_next_2
def dkwX2_next_0 : List UInt8 := [42, 42, 180, 0, 23, 182, 0, 26, 16, 32, 159, 0, 16, 42, 42, 180, 0, 23, 182, 0, 26, 16, 10]
abbrev dktX2_next_0 : List UInt8 := dkwX2_next_0 ++ dktX2_next_1
theorem dksX2_next_0 : cX2_next.data.toList.drop 0 = dktX2_next_0 := by decide +kernel
theorem dksX2_next_1 : cX2_next.data.toList.drop 23 = dktX2_next_1 := dk_seg dksX2_next_0 23 rfl rfl
theorem dksX2_next_2 : cX2_next.data.toList.drop 47 = dktX2_next_2 := dk_seg dksX2_next_1 24 rfl rfl
theorem dksX2_next_3 : cX2_next.data.toList.drop 71 = dktX2_next_3 := dk_seg dksX2_next_2 24 rfl rfl
theorem dksX2_next_4 : cX2_next.data.toList.drop 95 = dktX2_next_4 := dk_seg dksX2_next_3 24 rfl rfl
theorem dksX2_next_5 : cX2_next.data.toList.drop 117 = dktX2_next_5 := dk_seg dksX2_next_4 22 rfl rfl
theorem dksX2_next_6 : cX2_next.data.toList.drop 139 = dktX2_next_6 := dk_seg dksX2_next_5 22 rfl rfl
theorem dksX2_next_7 : cX2_next.data.toList.drop 162 = dktX2_next_7 := dk_seg dksX2_next_6 23 rfl rfl
theorem dksX2_next_8 : cX2_next.data.toList.drop 186 = dktX2_next_8 := dk_seg dksX2_next_7 24 rfl rfl
theorem dksX2_next_9 : cX2_next.data.toList.drop 210 = dktX2_next_9 := dk_seg dksX2_next_8 24 rfl rfl
theorem dksX2_next_10 : cX2_next.data.toList.drop 234 = dktX2_next_10 := dk_seg dksX2_next_9 24 rfl rfl
theorem dX2_next_0 : decode cX2_next 0 = .ok (.aload_n 0, 1) := dk_42 (dk_at dksX2_next_0 0 rfl rfl)
theorem dX2_next_1 : decode cX2_next 1 = .ok (.aload_n 0, 1) := dk_42 (dk_at dksX2_next_0 1 rfl rfl)
theorem dX2_next_2 : decode cX2_next 2 = .ok (.getfield 23, 3) := dk_180 0 23 (dk_at dksX2_next_0 2 rfl rfl)
theorem dX2_next_5 : decode cX2_next 5 = .ok (.invokevirtual 26, 3) := dk_182 0 26 (dk_at dksX2_next_0 5 rfl rfl)
theorem dX2_next_8 : decode cX2_next 8 = .ok (.bipush 32, 2) := dk_16 32 (dk_at dksX2_next_0 8 rfl rfl)
theorem dX2_next_10 : decode cX2_next 10 = .ok (.if_icmp .eq 16, 3) := dk_159 0 16 (dk_at dksX2_next_0 10 rfl rfl)
theorem dX2_next_13 : decode cX2_next 13 = .ok (.aload_n 0, 1) := dk_42 (dk_at dksX2_next_0 13 rfl rfl)
theorem dX2_next_14 : decode cX2_next 14 = .ok (.aload_n 0, 1) := dk_42 (dk_at dksX2_next_0 14 rfl rfl)
theorem dX2_next_15 : decode cX2_next 15 = .ok (.getfield 23, 3) := dk_180 0 23 (dk_at dksX2_next_0 15 rfl rfl)
theorem dX2_next_18 : decode cX2_next 18 = .ok (.invokevirtual 26, 3) := dk_182 0 26 (dk_at dksX2_next_0 18 rfl rfl)
theorem dX2_next_21 : decode cX2_next 21 = .ok (.bipush 10, 2) := dk_16 10 (dk_at dksX2_next_0 21 rfl rfl)
theorem dX2_next_23 : decode cX2_next 23 = .ok (.if_icmp .ne 16, 3) := dk_160 0 16 (dk_at dksX2_next_1 0 rfl rfl)
theorem dX2_next_26 : decode cX2_next 26 = .ok (.aload_n 0, 1) := dk_42 (dk_at dksX2_next_1 3 rfl rfl)
theorem dX2_next_27 : decode cX2_next 27 = .ok (.dup, 1) := dk_89 (dk_at dksX2_next_1 4 rfl rfl)
theorem dX2_next_28 : decode cX2_next 28 = .ok (.getfield 23, 3) := dk_180 0 23 (dk_at dksX2_next_1 5 rfl rfl)
theorem dX2_next_31 : decode cX2_next 31 = .ok (.iconst 1, 1) := dk_4 (dk_at dksX2_next_1 8 rfl rfl)
theorem dX2_next_32 : decode cX2_next 32 = .ok (.iadd, 1) := dk_96 (dk_at dksX2_next_1 9 rfl rfl)
theorem dX2_next_33 : decode cX2_next 33 = .ok (.putfield 23, 3) := dk_181 0 23 (dk_at dksX2_next_1 10 rfl rfl)
theorem dX2_next_36 : decode cX2_next 36 = .ok (.goto (-36), 3) := dk_167 255 220 (dk_at dksX2_next_1 13 rfl rfl)
theorem dX2_next_39 : decode cX2_next 39 = .ok (.aload_n 0, 1) := dk_42 (dk_at dksX2_next_1 16 rfl rfl)
theorem dX2_next_40 : decode cX2_next 40 = .ok (.aload_n 0, 1) := dk_42 (dk_at dksX2_next_1 17 rfl rfl)
theorem dX2_next_41 : decode cX2_next 41 = .ok (.getfield 23, 3) := dk_180 0 23 (dk_at dksX2_next_1 18 rfl rfl)
theorem dX2_next_44 : decode cX2_next 44 = .ok (.putfield 30, 3) := dk_181 0 30 (dk_at dksX2_next_1 21 rfl rfl)
theorem dX2_next_47 : decode cX2_next 47 = .ok (.aload_n 0, 1) := dk_42 (dk_at dksX2_next_2 0 rfl rfl)
theorem dX2_next_48 : decode cX2_next 48 = .ok (.aload_n 0, 1) := dk_42 (dk_at dksX2_next_2 1 rfl rfl)
theorem dX2_next_49 : decode cX2_next 49 = .ok (.getfield 23, 3) := dk_180 0 23 (dk_at dksX2_next_2 2 rfl rfl)
theorem dX2_next_52 : decode cX2_next 52 = .ok (.invokevirtual 26, 3) := dk_182 0 26 (dk_at dksX2_next_2 5 rfl rfl)
theorem dX2_next_55 : decode cX2_next 55 = .ok (.istore_n 1, 1) := dk_60 (dk_at dksX2_next_2 8 rfl rfl)
theorem dX2_next_56 : decode cX2_next 56 = .ok (.aload_n 0, 1) := dk_42 (dk_at dksX2_next_2 9 rfl rfl)
theorem dX2_next_57 : decode cX2_next 57 = .ok (.iload_n 1, 1) := dk_27 (dk_at dksX2_next_2 10 rfl rfl)
theorem dX2_next_58 : decode cX2_next 58 = .ok (.putfield 33, 3) := dk_181 0 33 (dk_at dksX2_next_2 11 rfl rfl)
theorem dX2_next_61 : decode cX2_next 61 = .ok (.iload_n 1, 1) := dk_27 (dk_at dksX2_next_2 14 rfl rfl)
theorem dX2_next_62 : decode cX2_next 62 = .ok (.iconst (-1), 1) := dk_2 (dk_at dksX2_next_2 15 rfl rfl)
theorem dX2_next_63 : decode cX2_next 63 = .ok (.if_icmp .ne 11, 3) := dk_160 0 11 (dk_at dksX2_next_2 16 rfl rfl)
theorem dX2_next_66 : decode cX2_next 66 = .ok (.aload_n 0, 1) := dk_42 (dk_at dksX2_next_2 19 rfl rfl)
theorem dX2_next_67 : decode cX2_next 67 = .ok (.iconst 0, 1) := dk_3 (dk_at dksX2_next_2 20 rfl rfl)
theorem dX2_next_68 : decode cX2_next 68 = .ok (.putfield 36, 3) := dk_181 0 36 (dk_at dksX2_next_2 21 rfl rfl)
theorem dX2_next_71 : decode cX2_next 71 = .ok (.goto 163, 3) := dk_167 0 163 (dk_at dksX2_next_3 0 rfl rfl)
theorem dX2_next_74 : decode cX2_next 74 = .ok (.iload_n 1, 1) := dk_27 (dk_at dksX2_next_3 3 rfl rfl)
theorem dX2_next_75 : decode cX2_next 75 = .ok (.invokestatic 39, 3) := dk_184 0 39 (dk_at dksX2_next_3 4 rfl rfl)
theorem dX2_next_78 : decode cX2_next 78 = .ok (.ifCond .eq 38, 3) := dk_153 0 38 (dk_at dksX2_next_3 7 rfl rfl)
theorem dX2_next_81 : decode cX2_next 81 = .ok (.aload_n 0, 1) := dk_42 (dk_at dksX2_next_3 10 rfl rfl)
theorem dX2_next_82 : decode cX2_next 82 = .ok (.aload_n 0, 1) := dk_42 (dk_at dksX2_next_3 11 rfl rfl)
theorem dX2_next_83 : decode cX2_next 83 = .ok (.getfield 23, 3) := dk_180 0 23 (dk_at dksX2_next_3 12 rfl rfl)
theorem dX2_next_86 : decode cX2_next 86 = .ok (.invokevirtual 26, 3) := dk_182 0 26 (dk_at dksX2_next_3 15 rfl rfl)
theorem dX2_next_89 : decode cX2_next 89 = .ok (.invokestatic 39, 3) := dk_184 0 39 (dk_at dksX2_next_3 18 rfl rfl)
theorem dX2_next_92 : decode cX2_next 92 = .ok (.ifCond .eq 16, 3) := dk_153 0 16 (dk_at dksX2_next_3 21 rfl rfl)
theorem dX2_next_95 : decode cX2_next 95 = .ok (.aload_n 0, 1) := dk_42 (dk_at dksX2_next_4 0 rfl rfl)
theorem dX2_next_96 : decode cX2_next 96 = .ok (.dup, 1) := dk_89 (dk_at dksX2_next_4 1 rfl rfl)
theorem dX2_next_97 : decode cX2_next 97 = .ok (.getfield 23, 3) := dk_180 0 23 (dk_at dksX2_next_4 2 rfl rfl)
theorem dX2_next_100 : decode cX2_next 100 = .ok (.iconst 1, 1) := dk_4 (dk_at dksX2_next_4 5 rfl rfl)
theorem dX2_next_101 : decode cX2_next 101 = .ok (.iadd, 1) := dk_96 (dk_at dksX2_next_4 6 rfl rfl)
theorem dX2_next_102 : decode cX2_next 102 = .ok (.putfield 23, 3) := dk_181 0 23 (dk_at dksX2_next_4 7 rfl rfl)
theorem dX2_next_105 : decode cX2_next 105 = .ok (.goto (-24), 3) := dk_167 255 232 (dk_at dksX2_next_4 10 rfl rfl)
theorem dX2_next_108 : decode cX2_next 108 = .ok (.aload_n 0, 1) := dk_42 (dk_at dksX2_next_4 13 rfl rfl)
theorem dX2_next_109 : decode cX2_next 109 = .ok (.iconst 2, 1) := dk_5 (dk_at dksX2_next_4 14 rfl rfl)
theorem dX2_next_110 : decode cX2_next 110 = .ok (.putfield 36, 3) := dk_181 0 36 (dk_at dksX2_next_4 15 rfl rfl)
theorem dX2_next_113 : decode cX2_next 113 = .ok (.goto 121, 3) := dk_167 0 121 (dk_at dksX2_next_4 18 rfl rfl)
theorem dX2_next_116 : decode cX2_next 116 = .ok (.iload_n 1, 1) := dk_27 (dk_at dksX2_next_4 21 rfl rfl)
theorem dX2_next_117 : decode cX2_next 117 = .ok (.invokestatic 43, 3) := dk_184 0 43 (dk_at dksX2_next_5 0 rfl rfl)
theorem dX2_next_120 : decode cX2_next 120 = .ok (.ifCond .eq 89, 3) := dk_153 0 89 (dk_at dksX2_next_5 3 rfl rfl)
theorem dX2_next_123 : decode cX2_next 123 = .ok (.aload_n 0, 1) := dk_42 (dk_at dksX2_next_5 6 rfl rfl)
theorem dX2_next_124 : decode cX2_next 124 = .ok (.iconst 0, 1) := dk_3 (dk_at dksX2_next_5 7 rfl rfl)
theorem dX2_next_125 : decode cX2_next 125 = .ok (.putfield 33, 3) := dk_181 0 33 (dk_at dksX2_next_5 8 rfl rfl)
theorem dX2_next_128 : decode cX2_next 128 = .ok (.aload_n 0, 1) := dk_42 (dk_at dksX2_next_5 11 rfl rfl)
theorem dX2_next_129 : decode cX2_next 129 = .ok (.aload_n 0, 1) := dk_42 (dk_at dksX2_next_5 12 rfl rfl)
theorem dX2_next_130 : decode cX2_next 130 = .ok (.getfield 23, 3) := dk_180 0 23 (dk_at dksX2_next_5 13 rfl rfl)
theorem dX2_next_133 : decode cX2_next 133 = .ok (.invokevirtual 26, 3) := dk_182 0 26 (dk_at dksX2_next_5 16 rfl rfl)
theorem dX2_next_136 : decode cX2_next 136 = .ok (.invokestatic 43, 3) := dk_184 0 43 (dk_at dksX2_next_5 19 rfl rfl)
theorem dX2_next_139 : decode cX2_next 139 = .ok (.ifCond .eq 45, 3) := dk_153 0 45 (dk_at dksX2_next_6 0 rfl rfl)
theorem dX2_next_142 : decode cX2_next 142 = .ok (.aload_n 0, 1) := dk_42 (dk_at dksX2_next_6 3 rfl rfl)
theorem dX2_next_143 : decode cX2_next 143 = .ok (.sipush 1000, 3) := dk_17 3 232 (dk_at dksX2_next_6 4 rfl rfl)
theorem dX2_next_146 : decode cX2_next 146 = .ok (.bipush 10, 2) := dk_16 10 (dk_at dksX2_next_6 7 rfl rfl)
theorem dX2_next_148 : decode cX2_next 148 = .ok (.aload_n 0, 1) := dk_42 (dk_at dksX2_next_6 9 rfl rfl)
theorem dX2_next_149 : decode cX2_next 149 = .ok (.getfield 33, 3) := dk_180 0 33 (dk_at dksX2_next_6 10 rfl rfl)
theorem dX2_next_152 : decode cX2_next 152 = .ok (.imul, 1) := dk_104 (dk_at dksX2_next_6 13 rfl rfl)
theorem dX2_next_153 : decode cX2_next 153 = .ok (.aload_n 0, 1) := dk_42 (dk_at dksX2_next_6 14 rfl rfl)
theorem dX2_next_154 : decode cX2_next 154 = .ok (.aload_n 0, 1) := dk_42 (dk_at dksX2_next_6 15 rfl rfl)
theorem dX2_next_155 : decode cX2_next 155 = .ok (.getfield 23, 3) := dk_180 0 23 (dk_at dksX2_next_6 16 rfl rfl)
theorem dX2_next_158 : decode cX2_next 158 = .ok (.invokevirtual 26, 3) := dk_182 0 26 (dk_at dksX2_next_6 19 rfl rfl)
theorem dX2_next_161 : decode cX2_next 161 = .ok (.iadd, 1) := dk_96 (dk_at dksX2_next_6 22 rfl rfl)
theorem dX2_next_162 : decode cX2_next 162 = .ok (.bipush 48, 2) := dk_16 48 (dk_at dksX2_next_7 0 rfl rfl)
theorem dX2_next_164 : decode cX2_next 164 = .ok (.isub, 1) := dk_100 (dk_at dksX2_next_7 2 rfl rfl)
theorem dX2_next_165 : decode cX2_next 165 = .ok (.invokestatic 46, 3) := dk_184 0 46 (dk_at dksX2_next_7 3 rfl rfl)
theorem dX2_next_168 : decode cX2_next 168 = .ok (.putfield 33, 3) := dk_181 0 33 (dk_at dksX2_next_7 6 rfl rfl)
theorem dX2_next_171 : decode cX2_next 171 = .ok (.aload_n 0, 1) := dk_42 (dk_at dksX2_next_7 9 rfl rfl)
theorem dX2_next_172 : decode cX2_next 172 = .ok (.dup, 1) := dk_89 (dk_at dksX2_next_7 10 rfl rfl)
theorem dX2_next_173 : decode cX2_next 173 = .ok (.getfield 23, 3) := dk_180 0 23 (dk_at dksX2_next_7 11 rfl rfl)
theorem dX2_next_176 : decode cX2_next 176 = .ok (.iconst 1, 1) := dk_4 (dk_at dksX2_next_7 14 rfl rfl)
theorem dX2_next_177 : decode cX2_next 177 = .ok (.iadd, 1) := dk_96 (dk_at dksX2_next_7 15 rfl rfl)
theorem dX2_next_178 : decode cX2_next 178 = .ok (.putfield 23, 3) := dk_181 0 23 (dk_at dksX2_next_7 16 rfl rfl)
theorem dX2_next_181 : decode cX2_next 181 = .ok (.goto (-53), 3) := dk_167 255 203 (dk_at dksX2_next_7 19 rfl rfl)
theorem dX2_next_184 : decode cX2_next 184 = .ok (.aload_n 0, 1) := dk_42 (dk_at dksX2_next_7 22 rfl rfl)
theorem dX2_next_185 : decode cX2_next 185 = .ok (.aload_n 0, 1) := dk_42 (dk_at dksX2_next_7 23 rfl rfl)
theorem dX2_next_186 : decode cX2_next 186 = .ok (.getfield 23, 3) := dk_180 0 23 (dk_at dksX2_next_8 0 rfl rfl)
theorem dX2_next_189 : decode cX2_next 189 = .ok (.aload_n 0, 1) := dk_42 (dk_at dksX2_next_8 3 rfl rfl)
theorem dX2_next_190 : decode cX2_next 190 = .ok (.getfield 30, 3) := dk_180 0 30 (dk_at dksX2_next_8 4 rfl rfl)
theorem dX2_next_193 : decode cX2_next 193 = .ok (.isub, 1) := dk_100 (dk_at dksX2_next_8 7 rfl rfl)
theorem dX2_next_194 : decode cX2_next 194 = .ok (.iconst 2, 1) := dk_5 (dk_at dksX2_next_8 8 rfl rfl)
theorem dX2_next_195 : decode cX2_next 195 = .ok (.if_icmp .le 7, 3) := dk_164 0 7 (dk_at dksX2_next_8 9 rfl rfl)
theorem dX2_next_198 : decode cX2_next 198 = .ok (.iconst 1, 1) := dk_4 (dk_at dksX2_next_8 12 rfl rfl)
theorem dX2_next_199 : decode cX2_next 199 = .ok (.goto 4, 3) := dk_167 0 4 (dk_at dksX2_next_8 13 rfl rfl)
theorem dX2_next_202 : decode cX2_next 202 = .ok (.iconst 3, 1) := dk_6 (dk_at dksX2_next_8 16 rfl rfl)
theorem dX2_next_203 : decode cX2_next 203 = .ok (.putfield 36, 3) := dk_181 0 36 (dk_at dksX2_next_8 17 rfl rfl)
theorem dX2_next_206 : decode cX2_next 206 = .ok (.goto 28, 3) := dk_167 0 28 (dk_at dksX2_next_8 20 rfl rfl)
theorem dX2_next_209 : decode cX2_next 209 = .ok (.aload_n 0, 1) := dk_42 (dk_at dksX2_next_8 23 rfl rfl)
theorem dX2_next_210 : decode cX2_next 210 = .ok (.dup, 1) := dk_89 (dk_at dksX2_next_9 0 rfl rfl)
theorem dX2_next_211 : decode cX2_next 211 = .ok (.getfield 23, 3) := dk_180 0 23 (dk_at dksX2_next_9 1 rfl rfl)
theorem dX2_next_214 : decode cX2_next 214 = .ok (.iconst 1, 1) := dk_4 (dk_at dksX2_next_9 4 rfl rfl)
theorem dX2_next_215 : decode cX2_next 215 = .ok (.iadd, 1) := dk_96 (dk_at dksX2_next_9 5 rfl rfl)
theorem dX2_next_216 : decode cX2_next 216 = .ok (.putfield 23, 3) := dk_181 0 23 (dk_at dksX2_next_9 6 rfl rfl)
theorem dX2_next_219 : decode cX2_next 219 = .ok (.aload_n 0, 1) := dk_42 (dk_at dksX2_next_9 9 rfl rfl)
theorem dX2_next_220 : decode cX2_next 220 = .ok (.iload_n 1, 1) := dk_27 (dk_at dksX2_next_9 10 rfl rfl)
theorem dX2_next_221 : decode cX2_next 221 = .ok (.bipush 59, 2) := dk_16 59 (dk_at dksX2_next_9 11 rfl rfl)
theorem dX2_next_223 : decode cX2_next 223 = .ok (.if_icmp .ne 7, 3) := dk_160 0 7 (dk_at dksX2_next_9 13 rfl rfl)
theorem dX2_next_226 : decode cX2_next 226 = .ok (.iconst 4, 1) := dk_7 (dk_at dksX2_next_9 16 rfl rfl)
theorem dX2_next_227 : decode cX2_next 227 = .ok (.goto 4, 3) := dk_167 0 4 (dk_at dksX2_next_9 17 rfl rfl)
theorem dX2_next_230 : decode cX2_next 230 = .ok (.iconst 1, 1) := dk_4 (dk_at dksX2_next_9 20 rfl rfl)
theorem dX2_next_231 : decode cX2_next 231 = .ok (.putfield 36, 3) := dk_181 0 36 (dk_at dksX2_next_9 21 rfl rfl)
theorem dX2_next_234 : decode cX2_next 234 = .ok (.return_, 1) := dk_177 (dk_at dksX2_next_10 0 rfl rfl)
abbrev cX2_at : ByteArray := prog_7_method_2_code
def yX2_at : MethodName := ⟨RX2, "at", "(I)I"⟩
def dkwX2_at_0 : List UInt8 := [27, 42, 180, 0, 19, 162, 0, 16, 42, 180, 0, 9, 27, 51, 17, 0, 255, 126, 167, 0, 4, 2, 172]
abbrev dktX2_at_0 : List UInt8 := dkwX2_at_0 ++ []
theorem dksX2_at_0 : cX2_at.data.toList.drop 0 = dktX2_at_0 := by decide +kernel
theorem dX2_at_0 : decode cX2_at 0 = .ok (.iload_n 1, 1) := dk_27 (dk_at dksX2_at_0 0 rfl rfl)
theorem dX2_at_1 : decode cX2_at 1 = .ok (.aload_n 0, 1) := dk_42 (dk_at dksX2_at_0 1 rfl rfl)
theorem dX2_at_2 : decode cX2_at 2 = .ok (.getfield 19, 3) := dk_180 0 19 (dk_at dksX2_at_0 2 rfl rfl)
theorem dX2_at_5 : decode cX2_at 5 = .ok (.if_icmp .ge 16, 3) := dk_162 0 16 (dk_at dksX2_at_0 5 rfl rfl)
theorem dX2_at_8 : decode cX2_at 8 = .ok (.aload_n 0, 1) := dk_42 (dk_at dksX2_at_0 8 rfl rfl)
theorem dX2_at_9 : decode cX2_at 9 = .ok (.getfield 9, 3) := dk_180 0 9 (dk_at dksX2_at_0 9 rfl rfl)
theorem dX2_at_12 : decode cX2_at 12 = .ok (.iload_n 1, 1) := dk_27 (dk_at dksX2_at_0 12 rfl rfl)
theorem dX2_at_13 : decode cX2_at 13 = .ok (.baload, 1) := dk_51 (dk_at dksX2_at_0 13 rfl rfl)
theorem dX2_at_14 : decode cX2_at 14 = .ok (.sipush 255, 3) := dk_17 0 255 (dk_at dksX2_at_0 14 rfl rfl)
theorem dX2_at_17 : decode cX2_at 17 = .ok (.iand, 1) := dk_126 (dk_at dksX2_at_0 17 rfl rfl)
theorem dX2_at_18 : decode cX2_at 18 = .ok (.goto 4, 3) := dk_167 0 4 (dk_at dksX2_at_0 18 rfl rfl)
theorem dX2_at_21 : decode cX2_at 21 = .ok (.iconst (-1), 1) := dk_2 (dk_at dksX2_at_0 21 rfl rfl)
theorem dX2_at_22 : decode cX2_at 22 = .ok (.ireturn, 1) := dk_172 (dk_at dksX2_at_0 22 rfl rfl)
abbrev cX2_isSmall : ByteArray := prog_7_method_4_code
def yX2_isSmall : MethodName := ⟨RX2, "isSmall", "(I)Z"⟩
def dkwX2_isSmall_0 : List UInt8 := [26, 16, 97, 161, 0, 13, 26, 16, 122, 163, 0, 7, 4, 167, 0, 4, 3, 172]
abbrev dktX2_isSmall_0 : List UInt8 := dkwX2_isSmall_0 ++ []
theorem dksX2_isSmall_0 : cX2_isSmall.data.toList.drop 0 = dktX2_isSmall_0 := by decide +kernel
theorem dX2_isSmall_0 : decode cX2_isSmall 0 = .ok (.iload_n 0, 1) := dk_26 (dk_at dksX2_isSmall_0 0 rfl rfl)
theorem dX2_isSmall_1 : decode cX2_isSmall 1 = .ok (.bipush 97, 2) := dk_16 97 (dk_at dksX2_isSmall_0 1 rfl rfl)
theorem dX2_isSmall_3 : decode cX2_isSmall 3 = .ok (.if_icmp .lt 13, 3) := dk_161 0 13 (dk_at dksX2_isSmall_0 3 rfl rfl)
theorem dX2_isSmall_6 : decode cX2_isSmall 6 = .ok (.iload_n 0, 1) := dk_26 (dk_at dksX2_isSmall_0 6 rfl rfl)
theorem dX2_isSmall_7 : decode cX2_isSmall 7 = .ok (.bipush 122, 2) := dk_16 122 (dk_at dksX2_isSmall_0 7 rfl rfl)
theorem dX2_isSmall_9 : decode cX2_isSmall 9 = .ok (.if_icmp .gt 7, 3) := dk_163 0 7 (dk_at dksX2_isSmall_0 9 rfl rfl)
theorem dX2_isSmall_12 : decode cX2_isSmall 12 = .ok (.iconst 1, 1) := dk_4 (dk_at dksX2_isSmall_0 12 rfl rfl)
theorem dX2_isSmall_13 : decode cX2_isSmall 13 = .ok (.goto 4, 3) := dk_167 0 4 (dk_at dksX2_isSmall_0 13 rfl rfl)
theorem dX2_isSmall_16 : decode cX2_isSmall 16 = .ok (.iconst 0, 1) := dk_3 (dk_at dksX2_isSmall_0 16 rfl rfl)
theorem dX2_isSmall_17 : decode cX2_isSmall 17 = .ok (.ireturn, 1) := dk_172 (dk_at dksX2_isSmall_0 17 rfl rfl)
abbrev cX2_isDigit : ByteArray := prog_7_method_3_code
def yX2_isDigit : MethodName := ⟨RX2, "isDigit", "(I)Z"⟩
def dkwX2_isDigit_0 : List UInt8 := [26, 16, 48, 161, 0, 13, 26, 16, 57, 163, 0, 7, 4, 167, 0, 4, 3, 172]
abbrev dktX2_isDigit_0 : List UInt8 := dkwX2_isDigit_0 ++ []
theorem dksX2_isDigit_0 : cX2_isDigit.data.toList.drop 0 = dktX2_isDigit_0 := by decide +kernel
theorem dX2_isDigit_0 : decode cX2_isDigit 0 = .ok (.iload_n 0, 1) := dk_26 (dk_at dksX2_isDigit_0 0 rfl rfl)
theorem dX2_isDigit_1 : decode cX2_isDigit 1 = .ok (.bipush 48, 2) := dk_16 48 (dk_at dksX2_isDigit_0 1 rfl rfl)
theorem dX2_isDigit_3 : decode cX2_isDigit 3 = .ok (.if_icmp .lt 13, 3) := dk_161 0 13 (dk_at dksX2_isDigit_0 3 rfl rfl)
theorem dX2_isDigit_6 : decode cX2_isDigit 6 = .ok (.iload_n 0, 1) := dk_26 (dk_at dksX2_isDigit_0 6 rfl rfl)
theorem dX2_isDigit_7 : decode cX2_isDigit 7 = .ok (.bipush 57, 2) := dk_16 57 (dk_at dksX2_isDigit_0 7 rfl rfl)
theorem dX2_isDigit_9 : decode cX2_isDigit 9 = .ok (.if_icmp .gt 7, 3) := dk_163 0 7 (dk_at dksX2_isDigit_0 9 rfl rfl)
theorem dX2_isDigit_12 : decode cX2_isDigit 12 = .ok (.iconst 1, 1) := dk_4 (dk_at dksX2_isDigit_0 12 rfl rfl)
theorem dX2_isDigit_13 : decode cX2_isDigit 13 = .ok (.goto 4, 3) := dk_167 0 4 (dk_at dksX2_isDigit_0 13 rfl rfl)
theorem dX2_isDigit_16 : decode cX2_isDigit 16 = .ok (.iconst 0, 1) := dk_3 (dk_at dksX2_isDigit_0 16 rfl rfl)
theorem dX2_isDigit_17 : decode cX2_isDigit 17 = .ok (.ireturn, 1) := dk_172 (dk_at dksX2_isDigit_0 17 rfl rfl)
abbrev cX2_part : ByteArray := prog_7_method_13_code
def yX2_part : MethodName := ⟨RX2, "part", "()V"⟩
def dkwX2_part_7 : List UInt8 := [3, 6, 182, 0, 114, 181, 0, 120, 177]
abbrev dktX2_part_7 : List UInt8 := dkwX2_part_7 ++ []
def dkwX2_part_6 : List UInt8 := [167, 0, 32, 42, 180, 0, 94, 42, 4, 7, 182, 0, 114, 181, 0, 117, 167, 0, 16, 42, 180, 0, 94, 42]
abbrev dktX2_part_6 : List UInt8 := dkwX2_part_6 ++ dktX2_part_7
def dkwX2_part_5 : List UInt8 := [42, 182, 0, 104, 167, 0, 50, 42, 182, 0, 107, 167, 0, 43, 42, 180, 0, 94, 4, 181, 0, 110]
abbrev dktX2_part_5 : List UInt8 := dkwX2_part_5 ++ dktX2_part_6
def dkwX2_part_4 : List UInt8 := [170, 0, 0, 0, 0, 0, 0, 73, 0, 0, 0, 0, 0, 0, 0, 3, 0, 0, 0, 32, 0, 0, 0, 39, 0, 0, 0, 46, 0, 0, 0, 57]
abbrev dktX2_part_4 : List UInt8 := dkwX2_part_4 ++ dktX2_part_5
def dkwX2_part_3 : List UInt8 := [180, 0, 101, 16, 12, 160, 0, 10, 42, 16, 6, 182, 0, 58, 191, 42, 182, 0, 85, 27]
abbrev dktX2_part_3 : List UInt8 := dkwX2_part_3 ++ dktX2_part_4
def dkwX2_part_2 : List UInt8 := [161, 0, 15, 42, 89, 180, 0, 88, 4, 27, 120, 128, 181, 0, 88, 27, 4, 160, 0, 22, 42, 180, 0, 94]
abbrev dktX2_part_2 : List UInt8 := dkwX2_part_2 ++ dktX2_part_3
def dkwX2_part_1 : List UInt8 := [5, 161, 0, 21, 42, 180, 0, 88, 27, 122, 4, 126, 4, 160, 0, 9, 42, 8, 182, 0, 58, 191, 27, 5]
abbrev dktX2_part_1 : List UInt8 := dkwX2_part_1 ++ dktX2_part_2
def dkwX2_part_0 : List UInt8 := [42, 182, 0, 78, 60, 42, 27, 155, 0, 12, 27, 7, 163, 0, 7, 4, 167, 0, 4, 3, 182, 0, 81, 27]
abbrev dktX2_part_0 : List UInt8 := dkwX2_part_0 ++ dktX2_part_1
theorem dksX2_part_0 : cX2_part.data.toList.drop 0 = dktX2_part_0 := by decide +kernel
theorem dksX2_part_1 : cX2_part.data.toList.drop 24 = dktX2_part_1 := dk_seg dksX2_part_0 24 rfl rfl
theorem dksX2_part_2 : cX2_part.data.toList.drop 48 = dktX2_part_2 := dk_seg dksX2_part_1 24 rfl rfl
theorem dksX2_part_3 : cX2_part.data.toList.drop 72 = dktX2_part_3 := dk_seg dksX2_part_2 24 rfl rfl
theorem dksX2_part_4 : cX2_part.data.toList.drop 92 = dktX2_part_4 := dk_seg dksX2_part_3 20 rfl rfl
theorem dksX2_part_5 : cX2_part.data.toList.drop 124 = dktX2_part_5 := dk_seg dksX2_part_4 32 rfl rfl
theorem dksX2_part_6 : cX2_part.data.toList.drop 146 = dktX2_part_6 := dk_seg dksX2_part_5 22 rfl rfl
theorem dksX2_part_7 : cX2_part.data.toList.drop 170 = dktX2_part_7 := dk_seg dksX2_part_6 24 rfl rfl
theorem dX2_part_0 : decode cX2_part 0 = .ok (.aload_n 0, 1) := dk_42 (dk_at dksX2_part_0 0 rfl rfl)
theorem dX2_part_1 : decode cX2_part 1 = .ok (.invokevirtual 78, 3) := dk_182 0 78 (dk_at dksX2_part_0 1 rfl rfl)
theorem dX2_part_4 : decode cX2_part 4 = .ok (.istore_n 1, 1) := dk_60 (dk_at dksX2_part_0 4 rfl rfl)
theorem dX2_part_5 : decode cX2_part 5 = .ok (.aload_n 0, 1) := dk_42 (dk_at dksX2_part_0 5 rfl rfl)
theorem dX2_part_6 : decode cX2_part 6 = .ok (.iload_n 1, 1) := dk_27 (dk_at dksX2_part_0 6 rfl rfl)
theorem dX2_part_7 : decode cX2_part 7 = .ok (.ifCond .lt 12, 3) := dk_155 0 12 (dk_at dksX2_part_0 7 rfl rfl)
theorem dX2_part_10 : decode cX2_part 10 = .ok (.iload_n 1, 1) := dk_27 (dk_at dksX2_part_0 10 rfl rfl)
theorem dX2_part_11 : decode cX2_part 11 = .ok (.iconst 4, 1) := dk_7 (dk_at dksX2_part_0 11 rfl rfl)
theorem dX2_part_12 : decode cX2_part 12 = .ok (.if_icmp .gt 7, 3) := dk_163 0 7 (dk_at dksX2_part_0 12 rfl rfl)
theorem dX2_part_15 : decode cX2_part 15 = .ok (.iconst 1, 1) := dk_4 (dk_at dksX2_part_0 15 rfl rfl)
theorem dX2_part_16 : decode cX2_part 16 = .ok (.goto 4, 3) := dk_167 0 4 (dk_at dksX2_part_0 16 rfl rfl)
theorem dX2_part_19 : decode cX2_part 19 = .ok (.iconst 0, 1) := dk_3 (dk_at dksX2_part_0 19 rfl rfl)
theorem dX2_part_20 : decode cX2_part 20 = .ok (.invokevirtual 81, 3) := dk_182 0 81 (dk_at dksX2_part_0 20 rfl rfl)
theorem dX2_part_23 : decode cX2_part 23 = .ok (.iload_n 1, 1) := dk_27 (dk_at dksX2_part_0 23 rfl rfl)
theorem dX2_part_24 : decode cX2_part 24 = .ok (.iconst 2, 1) := dk_5 (dk_at dksX2_part_1 0 rfl rfl)
theorem dX2_part_25 : decode cX2_part 25 = .ok (.if_icmp .lt 21, 3) := dk_161 0 21 (dk_at dksX2_part_1 1 rfl rfl)
theorem dX2_part_28 : decode cX2_part 28 = .ok (.aload_n 0, 1) := dk_42 (dk_at dksX2_part_1 4 rfl rfl)
theorem dX2_part_29 : decode cX2_part 29 = .ok (.getfield 88, 3) := dk_180 0 88 (dk_at dksX2_part_1 5 rfl rfl)
theorem dX2_part_32 : decode cX2_part 32 = .ok (.iload_n 1, 1) := dk_27 (dk_at dksX2_part_1 8 rfl rfl)
theorem dX2_part_33 : decode cX2_part 33 = .ok (.ishr, 1) := dk_122 (dk_at dksX2_part_1 9 rfl rfl)
theorem dX2_part_34 : decode cX2_part 34 = .ok (.iconst 1, 1) := dk_4 (dk_at dksX2_part_1 10 rfl rfl)
theorem dX2_part_35 : decode cX2_part 35 = .ok (.iand, 1) := dk_126 (dk_at dksX2_part_1 11 rfl rfl)
theorem dX2_part_36 : decode cX2_part 36 = .ok (.iconst 1, 1) := dk_4 (dk_at dksX2_part_1 12 rfl rfl)
theorem dX2_part_37 : decode cX2_part 37 = .ok (.if_icmp .ne 9, 3) := dk_160 0 9 (dk_at dksX2_part_1 13 rfl rfl)
theorem dX2_part_40 : decode cX2_part 40 = .ok (.aload_n 0, 1) := dk_42 (dk_at dksX2_part_1 16 rfl rfl)
theorem dX2_part_41 : decode cX2_part 41 = .ok (.iconst 5, 1) := dk_8 (dk_at dksX2_part_1 17 rfl rfl)
theorem dX2_part_42 : decode cX2_part 42 = .ok (.invokevirtual 58, 3) := dk_182 0 58 (dk_at dksX2_part_1 18 rfl rfl)
theorem dX2_part_45 : decode cX2_part 45 = .ok (.athrow, 1) := dk_191 (dk_at dksX2_part_1 21 rfl rfl)
theorem dX2_part_46 : decode cX2_part 46 = .ok (.iload_n 1, 1) := dk_27 (dk_at dksX2_part_1 22 rfl rfl)
theorem dX2_part_47 : decode cX2_part 47 = .ok (.iconst 2, 1) := dk_5 (dk_at dksX2_part_1 23 rfl rfl)
theorem dX2_part_48 : decode cX2_part 48 = .ok (.if_icmp .lt 15, 3) := dk_161 0 15 (dk_at dksX2_part_2 0 rfl rfl)
theorem dX2_part_51 : decode cX2_part 51 = .ok (.aload_n 0, 1) := dk_42 (dk_at dksX2_part_2 3 rfl rfl)
theorem dX2_part_52 : decode cX2_part 52 = .ok (.dup, 1) := dk_89 (dk_at dksX2_part_2 4 rfl rfl)
theorem dX2_part_53 : decode cX2_part 53 = .ok (.getfield 88, 3) := dk_180 0 88 (dk_at dksX2_part_2 5 rfl rfl)
theorem dX2_part_56 : decode cX2_part 56 = .ok (.iconst 1, 1) := dk_4 (dk_at dksX2_part_2 8 rfl rfl)
theorem dX2_part_57 : decode cX2_part 57 = .ok (.iload_n 1, 1) := dk_27 (dk_at dksX2_part_2 9 rfl rfl)
theorem dX2_part_58 : decode cX2_part 58 = .ok (.ishl, 1) := dk_120 (dk_at dksX2_part_2 10 rfl rfl)
theorem dX2_part_59 : decode cX2_part 59 = .ok (.ior, 1) := dk_128 (dk_at dksX2_part_2 11 rfl rfl)
theorem dX2_part_60 : decode cX2_part 60 = .ok (.putfield 88, 3) := dk_181 0 88 (dk_at dksX2_part_2 12 rfl rfl)
theorem dX2_part_63 : decode cX2_part 63 = .ok (.iload_n 1, 1) := dk_27 (dk_at dksX2_part_2 15 rfl rfl)
theorem dX2_part_64 : decode cX2_part 64 = .ok (.iconst 1, 1) := dk_4 (dk_at dksX2_part_2 16 rfl rfl)
theorem dX2_part_65 : decode cX2_part 65 = .ok (.if_icmp .ne 22, 3) := dk_160 0 22 (dk_at dksX2_part_2 17 rfl rfl)
theorem dX2_part_68 : decode cX2_part 68 = .ok (.aload_n 0, 1) := dk_42 (dk_at dksX2_part_2 20 rfl rfl)
theorem dX2_part_69 : decode cX2_part 69 = .ok (.getfield 94, 3) := dk_180 0 94 (dk_at dksX2_part_2 21 rfl rfl)
theorem dX2_part_72 : decode cX2_part 72 = .ok (.getfield 101, 3) := dk_180 0 101 (dk_at dksX2_part_3 0 rfl rfl)
theorem dX2_part_75 : decode cX2_part 75 = .ok (.bipush 12, 2) := dk_16 12 (dk_at dksX2_part_3 3 rfl rfl)
theorem dX2_part_77 : decode cX2_part 77 = .ok (.if_icmp .ne 10, 3) := dk_160 0 10 (dk_at dksX2_part_3 5 rfl rfl)
theorem dX2_part_80 : decode cX2_part 80 = .ok (.aload_n 0, 1) := dk_42 (dk_at dksX2_part_3 8 rfl rfl)
theorem dX2_part_81 : decode cX2_part 81 = .ok (.bipush 6, 2) := dk_16 6 (dk_at dksX2_part_3 9 rfl rfl)
theorem dX2_part_83 : decode cX2_part 83 = .ok (.invokevirtual 58, 3) := dk_182 0 58 (dk_at dksX2_part_3 11 rfl rfl)
theorem dX2_part_86 : decode cX2_part 86 = .ok (.athrow, 1) := dk_191 (dk_at dksX2_part_3 14 rfl rfl)
theorem dX2_part_87 : decode cX2_part 87 = .ok (.aload_n 0, 1) := dk_42 (dk_at dksX2_part_3 15 rfl rfl)
theorem dX2_part_88 : decode cX2_part 88 = .ok (.invokevirtual 85, 3) := dk_182 0 85 (dk_at dksX2_part_3 16 rfl rfl)
theorem dX2_part_91 : decode cX2_part 91 = .ok (.iload_n 1, 1) := dk_27 (dk_at dksX2_part_3 19 rfl rfl)
theorem dX2_part_92 : decode cX2_part 92 = .ok (.tableswitch 73 0 3 #[32, 39, 46, 57], 32) := by decide +kernel
theorem dX2_part_124 : decode cX2_part 124 = .ok (.aload_n 0, 1) := dk_42 (dk_at dksX2_part_5 0 rfl rfl)
theorem dX2_part_125 : decode cX2_part 125 = .ok (.invokevirtual 104, 3) := dk_182 0 104 (dk_at dksX2_part_5 1 rfl rfl)
theorem dX2_part_128 : decode cX2_part 128 = .ok (.goto 50, 3) := dk_167 0 50 (dk_at dksX2_part_5 4 rfl rfl)
theorem dX2_part_131 : decode cX2_part 131 = .ok (.aload_n 0, 1) := dk_42 (dk_at dksX2_part_5 7 rfl rfl)
theorem dX2_part_132 : decode cX2_part 132 = .ok (.invokevirtual 107, 3) := dk_182 0 107 (dk_at dksX2_part_5 8 rfl rfl)
theorem dX2_part_135 : decode cX2_part 135 = .ok (.goto 43, 3) := dk_167 0 43 (dk_at dksX2_part_5 11 rfl rfl)
theorem dX2_part_138 : decode cX2_part 138 = .ok (.aload_n 0, 1) := dk_42 (dk_at dksX2_part_5 14 rfl rfl)
theorem dX2_part_139 : decode cX2_part 139 = .ok (.getfield 94, 3) := dk_180 0 94 (dk_at dksX2_part_5 15 rfl rfl)
theorem dX2_part_142 : decode cX2_part 142 = .ok (.iconst 1, 1) := dk_4 (dk_at dksX2_part_5 18 rfl rfl)
theorem dX2_part_143 : decode cX2_part 143 = .ok (.putfield 110, 3) := dk_181 0 110 (dk_at dksX2_part_5 19 rfl rfl)
theorem dX2_part_146 : decode cX2_part 146 = .ok (.goto 32, 3) := dk_167 0 32 (dk_at dksX2_part_6 0 rfl rfl)
theorem dX2_part_149 : decode cX2_part 149 = .ok (.aload_n 0, 1) := dk_42 (dk_at dksX2_part_6 3 rfl rfl)
theorem dX2_part_150 : decode cX2_part 150 = .ok (.getfield 94, 3) := dk_180 0 94 (dk_at dksX2_part_6 4 rfl rfl)
theorem dX2_part_153 : decode cX2_part 153 = .ok (.aload_n 0, 1) := dk_42 (dk_at dksX2_part_6 7 rfl rfl)
theorem dX2_part_154 : decode cX2_part 154 = .ok (.iconst 1, 1) := dk_4 (dk_at dksX2_part_6 8 rfl rfl)
theorem dX2_part_155 : decode cX2_part 155 = .ok (.iconst 4, 1) := dk_7 (dk_at dksX2_part_6 9 rfl rfl)
theorem dX2_part_156 : decode cX2_part 156 = .ok (.invokevirtual 114, 3) := dk_182 0 114 (dk_at dksX2_part_6 10 rfl rfl)
theorem dX2_part_159 : decode cX2_part 159 = .ok (.putfield 117, 3) := dk_181 0 117 (dk_at dksX2_part_6 13 rfl rfl)
theorem dX2_part_162 : decode cX2_part 162 = .ok (.goto 16, 3) := dk_167 0 16 (dk_at dksX2_part_6 16 rfl rfl)
theorem dX2_part_165 : decode cX2_part 165 = .ok (.aload_n 0, 1) := dk_42 (dk_at dksX2_part_6 19 rfl rfl)
theorem dX2_part_166 : decode cX2_part 166 = .ok (.getfield 94, 3) := dk_180 0 94 (dk_at dksX2_part_6 20 rfl rfl)
theorem dX2_part_169 : decode cX2_part 169 = .ok (.aload_n 0, 1) := dk_42 (dk_at dksX2_part_6 23 rfl rfl)
theorem dX2_part_170 : decode cX2_part 170 = .ok (.iconst 0, 1) := dk_3 (dk_at dksX2_part_7 0 rfl rfl)
theorem dX2_part_171 : decode cX2_part 171 = .ok (.iconst 3, 1) := dk_6 (dk_at dksX2_part_7 1 rfl rfl)
theorem dX2_part_172 : decode cX2_part 172 = .ok (.invokevirtual 114, 3) := dk_182 0 114 (dk_at dksX2_part_7 2 rfl rfl)
theorem dX2_part_175 : decode cX2_part 175 = .ok (.putfield 120, 3) := dk_181 0 120 (dk_at dksX2_part_7 5 rfl rfl)
theorem dX2_part_178 : decode cX2_part 178 = .ok (.return_, 1) := dk_177 (dk_at dksX2_part_7 8 rfl rfl)
abbrev cX2_key : ByteArray := prog_7_method_8_code
def yX2_key : MethodName := ⟨RX2, "key", "()I"⟩
def dkwX2_key_2 : List UInt8 := [153, 0, 5, 27, 172, 132, 1, 1, 29, 4, 96, 61, 167, 255, 210, 2, 172]
abbrev dktX2_key_2 : List UInt8 := dkwX2_key_2 ++ []
def dkwX2_key_1 : List UInt8 := [62, 18, 62, 29, 182, 0, 70, 16, 32, 159, 0, 9, 132, 3, 1, 167, 255, 242, 42, 28, 29, 182, 0, 74]
abbrev dktX2_key_1 : List UInt8 := dkwX2_key_1 ++ dktX2_key_2
def dkwX2_key_0 : List UInt8 := [42, 180, 0, 36, 5, 159, 0, 5, 2, 172, 3, 60, 4, 61, 28, 18, 62, 182, 0, 64, 162, 0, 43, 28]
abbrev dktX2_key_0 : List UInt8 := dkwX2_key_0 ++ dktX2_key_1
theorem dksX2_key_0 : cX2_key.data.toList.drop 0 = dktX2_key_0 := by decide +kernel
theorem dksX2_key_1 : cX2_key.data.toList.drop 24 = dktX2_key_1 := dk_seg dksX2_key_0 24 rfl rfl
theorem dksX2_key_2 : cX2_key.data.toList.drop 48 = dktX2_key_2 := dk_seg dksX2_key_1 24 rfl rfl
theorem dX2_key_0 : decode cX2_key 0 = .ok (.aload_n 0, 1) := dk_42 (dk_at dksX2_key_0 0 rfl rfl)
theorem dX2_key_1 : decode cX2_key 1 = .ok (.getfield 36, 3) := dk_180 0 36 (dk_at dksX2_key_0 1 rfl rfl)
theorem dX2_key_4 : decode cX2_key 4 = .ok (.iconst 2, 1) := dk_5 (dk_at dksX2_key_0 4 rfl rfl)
theorem dX2_key_5 : decode cX2_key 5 = .ok (.if_icmp .eq 5, 3) := dk_159 0 5 (dk_at dksX2_key_0 5 rfl rfl)
theorem dX2_key_8 : decode cX2_key 8 = .ok (.iconst (-1), 1) := dk_2 (dk_at dksX2_key_0 8 rfl rfl)
theorem dX2_key_9 : decode cX2_key 9 = .ok (.ireturn, 1) := dk_172 (dk_at dksX2_key_0 9 rfl rfl)
theorem dX2_key_10 : decode cX2_key 10 = .ok (.iconst 0, 1) := dk_3 (dk_at dksX2_key_0 10 rfl rfl)
theorem dX2_key_11 : decode cX2_key 11 = .ok (.istore_n 1, 1) := dk_60 (dk_at dksX2_key_0 11 rfl rfl)
theorem dX2_key_12 : decode cX2_key 12 = .ok (.iconst 1, 1) := dk_4 (dk_at dksX2_key_0 12 rfl rfl)
theorem dX2_key_13 : decode cX2_key 13 = .ok (.istore_n 2, 1) := dk_61 (dk_at dksX2_key_0 13 rfl rfl)
theorem dX2_key_14 : decode cX2_key 14 = .ok (.iload_n 2, 1) := dk_28 (dk_at dksX2_key_0 14 rfl rfl)
theorem dX2_key_15 : decode cX2_key 15 = .ok (.ldc 62, 2) := dk_18 62 (dk_at dksX2_key_0 15 rfl rfl)
theorem dX2_key_17 : decode cX2_key 17 = .ok (.invokevirtual 64, 3) := dk_182 0 64 (dk_at dksX2_key_0 17 rfl rfl)
theorem dX2_key_20 : decode cX2_key 20 = .ok (.if_icmp .ge 43, 3) := dk_162 0 43 (dk_at dksX2_key_0 20 rfl rfl)
theorem dX2_key_23 : decode cX2_key 23 = .ok (.iload_n 2, 1) := dk_28 (dk_at dksX2_key_0 23 rfl rfl)
theorem dX2_key_24 : decode cX2_key 24 = .ok (.istore_n 3, 1) := dk_62 (dk_at dksX2_key_1 0 rfl rfl)
theorem dX2_key_25 : decode cX2_key 25 = .ok (.ldc 62, 2) := dk_18 62 (dk_at dksX2_key_1 1 rfl rfl)
theorem dX2_key_27 : decode cX2_key 27 = .ok (.iload_n 3, 1) := dk_29 (dk_at dksX2_key_1 3 rfl rfl)
theorem dX2_key_28 : decode cX2_key 28 = .ok (.invokevirtual 70, 3) := dk_182 0 70 (dk_at dksX2_key_1 4 rfl rfl)
theorem dX2_key_31 : decode cX2_key 31 = .ok (.bipush 32, 2) := dk_16 32 (dk_at dksX2_key_1 7 rfl rfl)
theorem dX2_key_33 : decode cX2_key 33 = .ok (.if_icmp .eq 9, 3) := dk_159 0 9 (dk_at dksX2_key_1 9 rfl rfl)
theorem dX2_key_36 : decode cX2_key 36 = .ok (.iinc 3 1, 3) := dk_132 3 1 (dk_at dksX2_key_1 12 rfl rfl)
theorem dX2_key_39 : decode cX2_key 39 = .ok (.goto (-14), 3) := dk_167 255 242 (dk_at dksX2_key_1 15 rfl rfl)
theorem dX2_key_42 : decode cX2_key 42 = .ok (.aload_n 0, 1) := dk_42 (dk_at dksX2_key_1 18 rfl rfl)
theorem dX2_key_43 : decode cX2_key 43 = .ok (.iload_n 2, 1) := dk_28 (dk_at dksX2_key_1 19 rfl rfl)
theorem dX2_key_44 : decode cX2_key 44 = .ok (.iload_n 3, 1) := dk_29 (dk_at dksX2_key_1 20 rfl rfl)
theorem dX2_key_45 : decode cX2_key 45 = .ok (.invokevirtual 74, 3) := dk_182 0 74 (dk_at dksX2_key_1 21 rfl rfl)
theorem dX2_key_48 : decode cX2_key 48 = .ok (.ifCond .eq 5, 3) := dk_153 0 5 (dk_at dksX2_key_2 0 rfl rfl)
theorem dX2_key_51 : decode cX2_key 51 = .ok (.iload_n 1, 1) := dk_27 (dk_at dksX2_key_2 3 rfl rfl)
theorem dX2_key_52 : decode cX2_key 52 = .ok (.ireturn, 1) := dk_172 (dk_at dksX2_key_2 4 rfl rfl)
theorem dX2_key_53 : decode cX2_key 53 = .ok (.iinc 1 1, 3) := dk_132 1 1 (dk_at dksX2_key_2 5 rfl rfl)
theorem dX2_key_56 : decode cX2_key 56 = .ok (.iload_n 3, 1) := dk_29 (dk_at dksX2_key_2 8 rfl rfl)
theorem dX2_key_57 : decode cX2_key 57 = .ok (.iconst 1, 1) := dk_4 (dk_at dksX2_key_2 9 rfl rfl)
theorem dX2_key_58 : decode cX2_key 58 = .ok (.iadd, 1) := dk_96 (dk_at dksX2_key_2 10 rfl rfl)
theorem dX2_key_59 : decode cX2_key 59 = .ok (.istore_n 2, 1) := dk_61 (dk_at dksX2_key_2 11 rfl rfl)
theorem dX2_key_60 : decode cX2_key 60 = .ok (.goto (-46), 3) := dk_167 255 210 (dk_at dksX2_key_2 12 rfl rfl)
theorem dX2_key_63 : decode cX2_key 63 = .ok (.iconst (-1), 1) := dk_2 (dk_at dksX2_key_2 15 rfl rfl)
theorem dX2_key_64 : decode cX2_key 64 = .ok (.ireturn, 1) := dk_172 (dk_at dksX2_key_2 16 rfl rfl)
abbrev cX2_isWord : ByteArray := prog_7_method_9_code
def yX2_isWord : MethodName := ⟨RX2, "isWord", "(II)Z"⟩
def dkwX2_isWord_2 : List UInt8 := [132, 3, 1, 167, 255, 225, 4, 172]
abbrev dktX2_isWord_2 : List UInt8 := dkwX2_isWord_2 ++ []
def dkwX2_isWord_1 : List UInt8 := [18, 62, 29, 182, 0, 70, 42, 42, 180, 0, 30, 29, 96, 27, 100, 182, 0, 26, 159, 0, 5, 3, 172]
abbrev dktX2_isWord_1 : List UInt8 := dkwX2_isWord_1 ++ dktX2_isWord_2
def dkwX2_isWord_0 : List UInt8 := [28, 27, 100, 42, 180, 0, 23, 42, 180, 0, 30, 100, 159, 0, 5, 3, 172, 27, 62, 29, 28, 162, 0, 32]
abbrev dktX2_isWord_0 : List UInt8 := dkwX2_isWord_0 ++ dktX2_isWord_1
theorem dksX2_isWord_0 : cX2_isWord.data.toList.drop 0 = dktX2_isWord_0 := by decide +kernel
theorem dksX2_isWord_1 : cX2_isWord.data.toList.drop 24 = dktX2_isWord_1 := dk_seg dksX2_isWord_0 24 rfl rfl
theorem dksX2_isWord_2 : cX2_isWord.data.toList.drop 47 = dktX2_isWord_2 := dk_seg dksX2_isWord_1 23 rfl rfl
theorem dX2_isWord_0 : decode cX2_isWord 0 = .ok (.iload_n 2, 1) := dk_28 (dk_at dksX2_isWord_0 0 rfl rfl)
theorem dX2_isWord_1 : decode cX2_isWord 1 = .ok (.iload_n 1, 1) := dk_27 (dk_at dksX2_isWord_0 1 rfl rfl)
theorem dX2_isWord_2 : decode cX2_isWord 2 = .ok (.isub, 1) := dk_100 (dk_at dksX2_isWord_0 2 rfl rfl)
theorem dX2_isWord_3 : decode cX2_isWord 3 = .ok (.aload_n 0, 1) := dk_42 (dk_at dksX2_isWord_0 3 rfl rfl)
theorem dX2_isWord_4 : decode cX2_isWord 4 = .ok (.getfield 23, 3) := dk_180 0 23 (dk_at dksX2_isWord_0 4 rfl rfl)
theorem dX2_isWord_7 : decode cX2_isWord 7 = .ok (.aload_n 0, 1) := dk_42 (dk_at dksX2_isWord_0 7 rfl rfl)
theorem dX2_isWord_8 : decode cX2_isWord 8 = .ok (.getfield 30, 3) := dk_180 0 30 (dk_at dksX2_isWord_0 8 rfl rfl)
theorem dX2_isWord_11 : decode cX2_isWord 11 = .ok (.isub, 1) := dk_100 (dk_at dksX2_isWord_0 11 rfl rfl)
theorem dX2_isWord_12 : decode cX2_isWord 12 = .ok (.if_icmp .eq 5, 3) := dk_159 0 5 (dk_at dksX2_isWord_0 12 rfl rfl)
theorem dX2_isWord_15 : decode cX2_isWord 15 = .ok (.iconst 0, 1) := dk_3 (dk_at dksX2_isWord_0 15 rfl rfl)
theorem dX2_isWord_16 : decode cX2_isWord 16 = .ok (.ireturn, 1) := dk_172 (dk_at dksX2_isWord_0 16 rfl rfl)
theorem dX2_isWord_17 : decode cX2_isWord 17 = .ok (.iload_n 1, 1) := dk_27 (dk_at dksX2_isWord_0 17 rfl rfl)
theorem dX2_isWord_18 : decode cX2_isWord 18 = .ok (.istore_n 3, 1) := dk_62 (dk_at dksX2_isWord_0 18 rfl rfl)
theorem dX2_isWord_19 : decode cX2_isWord 19 = .ok (.iload_n 3, 1) := dk_29 (dk_at dksX2_isWord_0 19 rfl rfl)
theorem dX2_isWord_20 : decode cX2_isWord 20 = .ok (.iload_n 2, 1) := dk_28 (dk_at dksX2_isWord_0 20 rfl rfl)
theorem dX2_isWord_21 : decode cX2_isWord 21 = .ok (.if_icmp .ge 32, 3) := dk_162 0 32 (dk_at dksX2_isWord_0 21 rfl rfl)
theorem dX2_isWord_24 : decode cX2_isWord 24 = .ok (.ldc 62, 2) := dk_18 62 (dk_at dksX2_isWord_1 0 rfl rfl)
theorem dX2_isWord_26 : decode cX2_isWord 26 = .ok (.iload_n 3, 1) := dk_29 (dk_at dksX2_isWord_1 2 rfl rfl)
theorem dX2_isWord_27 : decode cX2_isWord 27 = .ok (.invokevirtual 70, 3) := dk_182 0 70 (dk_at dksX2_isWord_1 3 rfl rfl)
theorem dX2_isWord_30 : decode cX2_isWord 30 = .ok (.aload_n 0, 1) := dk_42 (dk_at dksX2_isWord_1 6 rfl rfl)
theorem dX2_isWord_31 : decode cX2_isWord 31 = .ok (.aload_n 0, 1) := dk_42 (dk_at dksX2_isWord_1 7 rfl rfl)
theorem dX2_isWord_32 : decode cX2_isWord 32 = .ok (.getfield 30, 3) := dk_180 0 30 (dk_at dksX2_isWord_1 8 rfl rfl)
theorem dX2_isWord_35 : decode cX2_isWord 35 = .ok (.iload_n 3, 1) := dk_29 (dk_at dksX2_isWord_1 11 rfl rfl)
theorem dX2_isWord_36 : decode cX2_isWord 36 = .ok (.iadd, 1) := dk_96 (dk_at dksX2_isWord_1 12 rfl rfl)
theorem dX2_isWord_37 : decode cX2_isWord 37 = .ok (.iload_n 1, 1) := dk_27 (dk_at dksX2_isWord_1 13 rfl rfl)
theorem dX2_isWord_38 : decode cX2_isWord 38 = .ok (.isub, 1) := dk_100 (dk_at dksX2_isWord_1 14 rfl rfl)
theorem dX2_isWord_39 : decode cX2_isWord 39 = .ok (.invokevirtual 26, 3) := dk_182 0 26 (dk_at dksX2_isWord_1 15 rfl rfl)
theorem dX2_isWord_42 : decode cX2_isWord 42 = .ok (.if_icmp .eq 5, 3) := dk_159 0 5 (dk_at dksX2_isWord_1 18 rfl rfl)
theorem dX2_isWord_45 : decode cX2_isWord 45 = .ok (.iconst 0, 1) := dk_3 (dk_at dksX2_isWord_1 21 rfl rfl)
theorem dX2_isWord_46 : decode cX2_isWord 46 = .ok (.ireturn, 1) := dk_172 (dk_at dksX2_isWord_1 22 rfl rfl)
theorem dX2_isWord_47 : decode cX2_isWord 47 = .ok (.iinc 3 1, 3) := dk_132 3 1 (dk_at dksX2_isWord_2 0 rfl rfl)
theorem dX2_isWord_50 : decode cX2_isWord 50 = .ok (.goto (-31), 3) := dk_167 255 225 (dk_at dksX2_isWord_2 3 rfl rfl)
theorem dX2_isWord_53 : decode cX2_isWord 53 = .ok (.iconst 1, 1) := dk_4 (dk_at dksX2_isWord_2 6 rfl rfl)
theorem dX2_isWord_54 : decode cX2_isWord 54 = .ok (.ireturn, 1) := dk_172 (dk_at dksX2_isWord_2 7 rfl rfl)
abbrev cX2_need : ByteArray := prog_7_method_7_code
def yX2_need : MethodName := ⟨RX2, "need", "(Z)V"⟩
def dkwX2_need_0 : List UInt8 := [27, 154, 0, 9, 42, 5, 182, 0, 58, 191, 177]
abbrev dktX2_need_0 : List UInt8 := dkwX2_need_0 ++ []
theorem dksX2_need_0 : cX2_need.data.toList.drop 0 = dktX2_need_0 := by decide +kernel
theorem dX2_need_0 : decode cX2_need 0 = .ok (.iload_n 1, 1) := dk_27 (dk_at dksX2_need_0 0 rfl rfl)
theorem dX2_need_1 : decode cX2_need 1 = .ok (.ifCond .ne 9, 3) := dk_154 0 9 (dk_at dksX2_need_0 1 rfl rfl)
theorem dX2_need_4 : decode cX2_need 4 = .ok (.aload_n 0, 1) := dk_42 (dk_at dksX2_need_0 4 rfl rfl)
theorem dX2_need_5 : decode cX2_need 5 = .ok (.iconst 2, 1) := dk_5 (dk_at dksX2_need_0 5 rfl rfl)
theorem dX2_need_6 : decode cX2_need 6 = .ok (.invokevirtual 58, 3) := dk_182 0 58 (dk_at dksX2_need_0 6 rfl rfl)
theorem dX2_need_9 : decode cX2_need 9 = .ok (.athrow, 1) := dk_191 (dk_at dksX2_need_0 9 rfl rfl)
theorem dX2_need_10 : decode cX2_need 10 = .ok (.return_, 1) := dk_177 (dk_at dksX2_need_0 10 rfl rfl)
abbrev cX2_fail : ByteArray := prog_7_method_6_code
def yX2_fail : MethodName := ⟨RX2, "fail", "(I)LTwoSeek$Wrong;"⟩
def dkwX2_fail_1 : List UInt8 := [176]
abbrev dktX2_fail_1 : List UInt8 := dkwX2_fail_1 ++ []
def dkwX2_fail_0 : List UInt8 := [42, 180, 0, 15, 42, 180, 0, 36, 4, 160, 0, 7, 4, 167, 0, 4, 27, 42, 180, 0, 30, 182, 0, 52]
abbrev dktX2_fail_0 : List UInt8 := dkwX2_fail_0 ++ dktX2_fail_1
theorem dksX2_fail_0 : cX2_fail.data.toList.drop 0 = dktX2_fail_0 := by decide +kernel
theorem dksX2_fail_1 : cX2_fail.data.toList.drop 24 = dktX2_fail_1 := dk_seg dksX2_fail_0 24 rfl rfl
theorem dX2_fail_0 : decode cX2_fail 0 = .ok (.aload_n 0, 1) := dk_42 (dk_at dksX2_fail_0 0 rfl rfl)
theorem dX2_fail_1 : decode cX2_fail 1 = .ok (.getfield 15, 3) := dk_180 0 15 (dk_at dksX2_fail_0 1 rfl rfl)
theorem dX2_fail_4 : decode cX2_fail 4 = .ok (.aload_n 0, 1) := dk_42 (dk_at dksX2_fail_0 4 rfl rfl)
theorem dX2_fail_5 : decode cX2_fail 5 = .ok (.getfield 36, 3) := dk_180 0 36 (dk_at dksX2_fail_0 5 rfl rfl)
theorem dX2_fail_8 : decode cX2_fail 8 = .ok (.iconst 1, 1) := dk_4 (dk_at dksX2_fail_0 8 rfl rfl)
theorem dX2_fail_9 : decode cX2_fail 9 = .ok (.if_icmp .ne 7, 3) := dk_160 0 7 (dk_at dksX2_fail_0 9 rfl rfl)
theorem dX2_fail_12 : decode cX2_fail 12 = .ok (.iconst 1, 1) := dk_4 (dk_at dksX2_fail_0 12 rfl rfl)
theorem dX2_fail_13 : decode cX2_fail 13 = .ok (.goto 4, 3) := dk_167 0 4 (dk_at dksX2_fail_0 13 rfl rfl)
theorem dX2_fail_16 : decode cX2_fail 16 = .ok (.iload_n 1, 1) := dk_27 (dk_at dksX2_fail_0 16 rfl rfl)
theorem dX2_fail_17 : decode cX2_fail 17 = .ok (.aload_n 0, 1) := dk_42 (dk_at dksX2_fail_0 17 rfl rfl)
theorem dX2_fail_18 : decode cX2_fail 18 = .ok (.getfield 30, 3) := dk_180 0 30 (dk_at dksX2_fail_0 18 rfl rfl)
theorem dX2_fail_21 : decode cX2_fail 21 = .ok (.invokevirtual 52, 3) := dk_182 0 52 (dk_at dksX2_fail_0 21 rfl rfl)
theorem dX2_fail_24 : decode cX2_fail 24 = .ok (.areturn, 1) := dk_176 (dk_at dksX2_fail_1 0 rfl rfl)
abbrev cX2_aPlace : ByteArray := prog_7_method_14_code
def yX2_aPlace : MethodName := ⟨RX2, "aPlace", "()V"⟩
def dkwX2_aPlace_8 : List UInt8 := [181, 0, 146, 167, 0, 9, 45, 21, 6, 181, 0, 149, 42, 182, 0, 78, 54, 5, 167, 255, 151, 177]
abbrev dktX2_aPlace_8 : List UInt8 := dkwX2_aPlace_8 ++ []
def dkwX2_aPlace_7 : List UInt8 := [8, 160, 0, 12, 45, 21, 6, 181, 0, 143, 167, 0, 25, 21, 5, 16, 6, 160, 0, 12, 45, 21, 6]
abbrev dktX2_aPlace_7 : List UInt8 := dkwX2_aPlace_7 ++ dktX2_aPlace_8
def dkwX2_aPlace_6 : List UInt8 := [182, 0, 85, 42, 3, 21, 5, 8, 160, 0, 7, 8, 167, 0, 5, 16, 9, 182, 0, 114, 54, 6, 21, 5]
abbrev dktX2_aPlace_6 : List UInt8 := dkwX2_aPlace_6 ++ dktX2_aPlace_7
def dkwX2_aPlace_5 : List UInt8 := [4, 126, 4, 160, 0, 9, 42, 8, 182, 0, 58, 191, 21, 4, 4, 21, 5, 120, 128, 54, 4, 42]
abbrev dktX2_aPlace_5 : List UInt8 := dkwX2_aPlace_5 ++ dktX2_aPlace_6
def dkwX2_aPlace_4 : List UInt8 := [42, 182, 0, 78, 54, 5, 21, 5, 8, 161, 0, 105, 21, 5, 16, 7, 163, 0, 98, 21, 4, 21, 5, 122]
abbrev dktX2_aPlace_4 : List UInt8 := dkwX2_aPlace_4 ++ dktX2_aPlace_5
def dkwX2_aPlace_3 : List UInt8 := [180, 0, 94, 180, 0, 131, 45, 83, 42, 180, 0, 94, 89, 180, 0, 131, 4, 96, 181, 0, 131, 3, 54, 4]
abbrev dktX2_aPlace_3 : List UInt8 := dkwX2_aPlace_3 ++ dktX2_aPlace_4
def dkwX2_aPlace_2 : List UInt8 := [187, 0, 134, 89, 31, 42, 180, 0, 94, 180, 0, 131, 183, 0, 136, 78, 42, 180, 0, 94, 180, 0, 139, 42]
abbrev dktX2_aPlace_2 : List UInt8 := dkwX2_aPlace_2 ++ dktX2_aPlace_3
def dkwX2_aPlace_1 : List UInt8 := [180, 0, 94, 180, 0, 131, 16, 8, 160, 0, 10, 42, 16, 6, 182, 0, 58, 191, 42, 182, 0, 85]
abbrev dktX2_aPlace_1 : List UInt8 := dkwX2_aPlace_1 ++ dktX2_aPlace_2
def dkwX2_aPlace_0 : List UInt8 := [42, 182, 0, 123, 64, 42, 180, 0, 94, 31, 182, 0, 127, 198, 0, 9, 42, 6, 182, 0, 58, 191, 42]
abbrev dktX2_aPlace_0 : List UInt8 := dkwX2_aPlace_0 ++ dktX2_aPlace_1
theorem dksX2_aPlace_0 : cX2_aPlace.data.toList.drop 0 = dktX2_aPlace_0 := by decide +kernel
theorem dksX2_aPlace_1 : cX2_aPlace.data.toList.drop 23 = dktX2_aPlace_1 := dk_seg dksX2_aPlace_0 23 rfl rfl
theorem dksX2_aPlace_2 : cX2_aPlace.data.toList.drop 45 = dktX2_aPlace_2 := dk_seg dksX2_aPlace_1 22 rfl rfl
theorem dksX2_aPlace_3 : cX2_aPlace.data.toList.drop 69 = dktX2_aPlace_3 := dk_seg dksX2_aPlace_2 24 rfl rfl
theorem dksX2_aPlace_4 : cX2_aPlace.data.toList.drop 93 = dktX2_aPlace_4 := dk_seg dksX2_aPlace_3 24 rfl rfl
theorem dksX2_aPlace_5 : cX2_aPlace.data.toList.drop 117 = dktX2_aPlace_5 := dk_seg dksX2_aPlace_4 24 rfl rfl
theorem dksX2_aPlace_6 : cX2_aPlace.data.toList.drop 139 = dktX2_aPlace_6 := dk_seg dksX2_aPlace_5 22 rfl rfl
theorem dksX2_aPlace_7 : cX2_aPlace.data.toList.drop 163 = dktX2_aPlace_7 := dk_seg dksX2_aPlace_6 24 rfl rfl
theorem dksX2_aPlace_8 : cX2_aPlace.data.toList.drop 186 = dktX2_aPlace_8 := dk_seg dksX2_aPlace_7 23 rfl rfl
theorem dX2_aPlace_0 : decode cX2_aPlace 0 = .ok (.aload_n 0, 1) := dk_42 (dk_at dksX2_aPlace_0 0 rfl rfl)
theorem dX2_aPlace_1 : decode cX2_aPlace 1 = .ok (.invokevirtual 123, 3) := dk_182 0 123 (dk_at dksX2_aPlace_0 1 rfl rfl)
theorem dX2_aPlace_4 : decode cX2_aPlace 4 = .ok (.lstore_n 1, 1) := dk_64 (dk_at dksX2_aPlace_0 4 rfl rfl)
theorem dX2_aPlace_5 : decode cX2_aPlace 5 = .ok (.aload_n 0, 1) := dk_42 (dk_at dksX2_aPlace_0 5 rfl rfl)
theorem dX2_aPlace_6 : decode cX2_aPlace 6 = .ok (.getfield 94, 3) := dk_180 0 94 (dk_at dksX2_aPlace_0 6 rfl rfl)
theorem dX2_aPlace_9 : decode cX2_aPlace 9 = .ok (.lload_n 1, 1) := dk_31 (dk_at dksX2_aPlace_0 9 rfl rfl)
theorem dX2_aPlace_10 : decode cX2_aPlace 10 = .ok (.invokevirtual 127, 3) := dk_182 0 127 (dk_at dksX2_aPlace_0 10 rfl rfl)
theorem dX2_aPlace_13 : decode cX2_aPlace 13 = .ok (.ifnull 9, 3) := dk_198 0 9 (dk_at dksX2_aPlace_0 13 rfl rfl)
theorem dX2_aPlace_16 : decode cX2_aPlace 16 = .ok (.aload_n 0, 1) := dk_42 (dk_at dksX2_aPlace_0 16 rfl rfl)
theorem dX2_aPlace_17 : decode cX2_aPlace 17 = .ok (.iconst 3, 1) := dk_6 (dk_at dksX2_aPlace_0 17 rfl rfl)
theorem dX2_aPlace_18 : decode cX2_aPlace 18 = .ok (.invokevirtual 58, 3) := dk_182 0 58 (dk_at dksX2_aPlace_0 18 rfl rfl)
theorem dX2_aPlace_21 : decode cX2_aPlace 21 = .ok (.athrow, 1) := dk_191 (dk_at dksX2_aPlace_0 21 rfl rfl)
theorem dX2_aPlace_22 : decode cX2_aPlace 22 = .ok (.aload_n 0, 1) := dk_42 (dk_at dksX2_aPlace_0 22 rfl rfl)
theorem dX2_aPlace_23 : decode cX2_aPlace 23 = .ok (.getfield 94, 3) := dk_180 0 94 (dk_at dksX2_aPlace_1 0 rfl rfl)
theorem dX2_aPlace_26 : decode cX2_aPlace 26 = .ok (.getfield 131, 3) := dk_180 0 131 (dk_at dksX2_aPlace_1 3 rfl rfl)
theorem dX2_aPlace_29 : decode cX2_aPlace 29 = .ok (.bipush 8, 2) := dk_16 8 (dk_at dksX2_aPlace_1 6 rfl rfl)
theorem dX2_aPlace_31 : decode cX2_aPlace 31 = .ok (.if_icmp .ne 10, 3) := dk_160 0 10 (dk_at dksX2_aPlace_1 8 rfl rfl)
theorem dX2_aPlace_34 : decode cX2_aPlace 34 = .ok (.aload_n 0, 1) := dk_42 (dk_at dksX2_aPlace_1 11 rfl rfl)
theorem dX2_aPlace_35 : decode cX2_aPlace 35 = .ok (.bipush 6, 2) := dk_16 6 (dk_at dksX2_aPlace_1 12 rfl rfl)
theorem dX2_aPlace_37 : decode cX2_aPlace 37 = .ok (.invokevirtual 58, 3) := dk_182 0 58 (dk_at dksX2_aPlace_1 14 rfl rfl)
theorem dX2_aPlace_40 : decode cX2_aPlace 40 = .ok (.athrow, 1) := dk_191 (dk_at dksX2_aPlace_1 17 rfl rfl)
theorem dX2_aPlace_41 : decode cX2_aPlace 41 = .ok (.aload_n 0, 1) := dk_42 (dk_at dksX2_aPlace_1 18 rfl rfl)
theorem dX2_aPlace_42 : decode cX2_aPlace 42 = .ok (.invokevirtual 85, 3) := dk_182 0 85 (dk_at dksX2_aPlace_1 19 rfl rfl)
theorem dX2_aPlace_45 : decode cX2_aPlace 45 = .ok (.new 134, 3) := dk_187 0 134 (dk_at dksX2_aPlace_2 0 rfl rfl)
theorem dX2_aPlace_48 : decode cX2_aPlace 48 = .ok (.dup, 1) := dk_89 (dk_at dksX2_aPlace_2 3 rfl rfl)
theorem dX2_aPlace_49 : decode cX2_aPlace 49 = .ok (.lload_n 1, 1) := dk_31 (dk_at dksX2_aPlace_2 4 rfl rfl)
theorem dX2_aPlace_50 : decode cX2_aPlace 50 = .ok (.aload_n 0, 1) := dk_42 (dk_at dksX2_aPlace_2 5 rfl rfl)
theorem dX2_aPlace_51 : decode cX2_aPlace 51 = .ok (.getfield 94, 3) := dk_180 0 94 (dk_at dksX2_aPlace_2 6 rfl rfl)
theorem dX2_aPlace_54 : decode cX2_aPlace 54 = .ok (.getfield 131, 3) := dk_180 0 131 (dk_at dksX2_aPlace_2 9 rfl rfl)
theorem dX2_aPlace_57 : decode cX2_aPlace 57 = .ok (.invokespecial 136, 3) := dk_183 0 136 (dk_at dksX2_aPlace_2 12 rfl rfl)
theorem dX2_aPlace_60 : decode cX2_aPlace 60 = .ok (.astore_n 3, 1) := dk_78 (dk_at dksX2_aPlace_2 15 rfl rfl)
theorem dX2_aPlace_61 : decode cX2_aPlace 61 = .ok (.aload_n 0, 1) := dk_42 (dk_at dksX2_aPlace_2 16 rfl rfl)
theorem dX2_aPlace_62 : decode cX2_aPlace 62 = .ok (.getfield 94, 3) := dk_180 0 94 (dk_at dksX2_aPlace_2 17 rfl rfl)
theorem dX2_aPlace_65 : decode cX2_aPlace 65 = .ok (.getfield 139, 3) := dk_180 0 139 (dk_at dksX2_aPlace_2 20 rfl rfl)
theorem dX2_aPlace_68 : decode cX2_aPlace 68 = .ok (.aload_n 0, 1) := dk_42 (dk_at dksX2_aPlace_2 23 rfl rfl)
theorem dX2_aPlace_69 : decode cX2_aPlace 69 = .ok (.getfield 94, 3) := dk_180 0 94 (dk_at dksX2_aPlace_3 0 rfl rfl)
theorem dX2_aPlace_72 : decode cX2_aPlace 72 = .ok (.getfield 131, 3) := dk_180 0 131 (dk_at dksX2_aPlace_3 3 rfl rfl)
theorem dX2_aPlace_75 : decode cX2_aPlace 75 = .ok (.aload_n 3, 1) := dk_45 (dk_at dksX2_aPlace_3 6 rfl rfl)
theorem dX2_aPlace_76 : decode cX2_aPlace 76 = .ok (.aastore, 1) := dk_83 (dk_at dksX2_aPlace_3 7 rfl rfl)
theorem dX2_aPlace_77 : decode cX2_aPlace 77 = .ok (.aload_n 0, 1) := dk_42 (dk_at dksX2_aPlace_3 8 rfl rfl)
theorem dX2_aPlace_78 : decode cX2_aPlace 78 = .ok (.getfield 94, 3) := dk_180 0 94 (dk_at dksX2_aPlace_3 9 rfl rfl)
theorem dX2_aPlace_81 : decode cX2_aPlace 81 = .ok (.dup, 1) := dk_89 (dk_at dksX2_aPlace_3 12 rfl rfl)
theorem dX2_aPlace_82 : decode cX2_aPlace 82 = .ok (.getfield 131, 3) := dk_180 0 131 (dk_at dksX2_aPlace_3 13 rfl rfl)
theorem dX2_aPlace_85 : decode cX2_aPlace 85 = .ok (.iconst 1, 1) := dk_4 (dk_at dksX2_aPlace_3 16 rfl rfl)
theorem dX2_aPlace_86 : decode cX2_aPlace 86 = .ok (.iadd, 1) := dk_96 (dk_at dksX2_aPlace_3 17 rfl rfl)
theorem dX2_aPlace_87 : decode cX2_aPlace 87 = .ok (.putfield 131, 3) := dk_181 0 131 (dk_at dksX2_aPlace_3 18 rfl rfl)
theorem dX2_aPlace_90 : decode cX2_aPlace 90 = .ok (.iconst 0, 1) := dk_3 (dk_at dksX2_aPlace_3 21 rfl rfl)
theorem dX2_aPlace_91 : decode cX2_aPlace 91 = .ok (.istore 4, 2) := dk_54 4 (dk_at dksX2_aPlace_3 22 rfl rfl)
theorem dX2_aPlace_93 : decode cX2_aPlace 93 = .ok (.aload_n 0, 1) := dk_42 (dk_at dksX2_aPlace_4 0 rfl rfl)
theorem dX2_aPlace_94 : decode cX2_aPlace 94 = .ok (.invokevirtual 78, 3) := dk_182 0 78 (dk_at dksX2_aPlace_4 1 rfl rfl)
theorem dX2_aPlace_97 : decode cX2_aPlace 97 = .ok (.istore 5, 2) := dk_54 5 (dk_at dksX2_aPlace_4 4 rfl rfl)
theorem dX2_aPlace_99 : decode cX2_aPlace 99 = .ok (.iload 5, 2) := dk_21 5 (dk_at dksX2_aPlace_4 6 rfl rfl)
theorem dX2_aPlace_101 : decode cX2_aPlace 101 = .ok (.iconst 5, 1) := dk_8 (dk_at dksX2_aPlace_4 8 rfl rfl)
theorem dX2_aPlace_102 : decode cX2_aPlace 102 = .ok (.if_icmp .lt 105, 3) := dk_161 0 105 (dk_at dksX2_aPlace_4 9 rfl rfl)
theorem dX2_aPlace_105 : decode cX2_aPlace 105 = .ok (.iload 5, 2) := dk_21 5 (dk_at dksX2_aPlace_4 12 rfl rfl)
theorem dX2_aPlace_107 : decode cX2_aPlace 107 = .ok (.bipush 7, 2) := dk_16 7 (dk_at dksX2_aPlace_4 14 rfl rfl)
theorem dX2_aPlace_109 : decode cX2_aPlace 109 = .ok (.if_icmp .gt 98, 3) := dk_163 0 98 (dk_at dksX2_aPlace_4 16 rfl rfl)
theorem dX2_aPlace_112 : decode cX2_aPlace 112 = .ok (.iload 4, 2) := dk_21 4 (dk_at dksX2_aPlace_4 19 rfl rfl)
theorem dX2_aPlace_114 : decode cX2_aPlace 114 = .ok (.iload 5, 2) := dk_21 5 (dk_at dksX2_aPlace_4 21 rfl rfl)
theorem dX2_aPlace_116 : decode cX2_aPlace 116 = .ok (.ishr, 1) := dk_122 (dk_at dksX2_aPlace_4 23 rfl rfl)
theorem dX2_aPlace_117 : decode cX2_aPlace 117 = .ok (.iconst 1, 1) := dk_4 (dk_at dksX2_aPlace_5 0 rfl rfl)
theorem dX2_aPlace_118 : decode cX2_aPlace 118 = .ok (.iand, 1) := dk_126 (dk_at dksX2_aPlace_5 1 rfl rfl)
theorem dX2_aPlace_119 : decode cX2_aPlace 119 = .ok (.iconst 1, 1) := dk_4 (dk_at dksX2_aPlace_5 2 rfl rfl)
theorem dX2_aPlace_120 : decode cX2_aPlace 120 = .ok (.if_icmp .ne 9, 3) := dk_160 0 9 (dk_at dksX2_aPlace_5 3 rfl rfl)
theorem dX2_aPlace_123 : decode cX2_aPlace 123 = .ok (.aload_n 0, 1) := dk_42 (dk_at dksX2_aPlace_5 6 rfl rfl)
theorem dX2_aPlace_124 : decode cX2_aPlace 124 = .ok (.iconst 5, 1) := dk_8 (dk_at dksX2_aPlace_5 7 rfl rfl)
theorem dX2_aPlace_125 : decode cX2_aPlace 125 = .ok (.invokevirtual 58, 3) := dk_182 0 58 (dk_at dksX2_aPlace_5 8 rfl rfl)
theorem dX2_aPlace_128 : decode cX2_aPlace 128 = .ok (.athrow, 1) := dk_191 (dk_at dksX2_aPlace_5 11 rfl rfl)
theorem dX2_aPlace_129 : decode cX2_aPlace 129 = .ok (.iload 4, 2) := dk_21 4 (dk_at dksX2_aPlace_5 12 rfl rfl)
theorem dX2_aPlace_131 : decode cX2_aPlace 131 = .ok (.iconst 1, 1) := dk_4 (dk_at dksX2_aPlace_5 14 rfl rfl)
theorem dX2_aPlace_132 : decode cX2_aPlace 132 = .ok (.iload 5, 2) := dk_21 5 (dk_at dksX2_aPlace_5 15 rfl rfl)
theorem dX2_aPlace_134 : decode cX2_aPlace 134 = .ok (.ishl, 1) := dk_120 (dk_at dksX2_aPlace_5 17 rfl rfl)
theorem dX2_aPlace_135 : decode cX2_aPlace 135 = .ok (.ior, 1) := dk_128 (dk_at dksX2_aPlace_5 18 rfl rfl)
theorem dX2_aPlace_136 : decode cX2_aPlace 136 = .ok (.istore 4, 2) := dk_54 4 (dk_at dksX2_aPlace_5 19 rfl rfl)
theorem dX2_aPlace_138 : decode cX2_aPlace 138 = .ok (.aload_n 0, 1) := dk_42 (dk_at dksX2_aPlace_5 21 rfl rfl)
theorem dX2_aPlace_139 : decode cX2_aPlace 139 = .ok (.invokevirtual 85, 3) := dk_182 0 85 (dk_at dksX2_aPlace_6 0 rfl rfl)
theorem dX2_aPlace_142 : decode cX2_aPlace 142 = .ok (.aload_n 0, 1) := dk_42 (dk_at dksX2_aPlace_6 3 rfl rfl)
theorem dX2_aPlace_143 : decode cX2_aPlace 143 = .ok (.iconst 0, 1) := dk_3 (dk_at dksX2_aPlace_6 4 rfl rfl)
theorem dX2_aPlace_144 : decode cX2_aPlace 144 = .ok (.iload 5, 2) := dk_21 5 (dk_at dksX2_aPlace_6 5 rfl rfl)
theorem dX2_aPlace_146 : decode cX2_aPlace 146 = .ok (.iconst 5, 1) := dk_8 (dk_at dksX2_aPlace_6 7 rfl rfl)
theorem dX2_aPlace_147 : decode cX2_aPlace 147 = .ok (.if_icmp .ne 7, 3) := dk_160 0 7 (dk_at dksX2_aPlace_6 8 rfl rfl)
theorem dX2_aPlace_150 : decode cX2_aPlace 150 = .ok (.iconst 5, 1) := dk_8 (dk_at dksX2_aPlace_6 11 rfl rfl)
theorem dX2_aPlace_151 : decode cX2_aPlace 151 = .ok (.goto 5, 3) := dk_167 0 5 (dk_at dksX2_aPlace_6 12 rfl rfl)
theorem dX2_aPlace_154 : decode cX2_aPlace 154 = .ok (.bipush 9, 2) := dk_16 9 (dk_at dksX2_aPlace_6 15 rfl rfl)
theorem dX2_aPlace_156 : decode cX2_aPlace 156 = .ok (.invokevirtual 114, 3) := dk_182 0 114 (dk_at dksX2_aPlace_6 17 rfl rfl)
theorem dX2_aPlace_159 : decode cX2_aPlace 159 = .ok (.istore 6, 2) := dk_54 6 (dk_at dksX2_aPlace_6 20 rfl rfl)
theorem dX2_aPlace_161 : decode cX2_aPlace 161 = .ok (.iload 5, 2) := dk_21 5 (dk_at dksX2_aPlace_6 22 rfl rfl)
theorem dX2_aPlace_163 : decode cX2_aPlace 163 = .ok (.iconst 5, 1) := dk_8 (dk_at dksX2_aPlace_7 0 rfl rfl)
theorem dX2_aPlace_164 : decode cX2_aPlace 164 = .ok (.if_icmp .ne 12, 3) := dk_160 0 12 (dk_at dksX2_aPlace_7 1 rfl rfl)
theorem dX2_aPlace_167 : decode cX2_aPlace 167 = .ok (.aload_n 3, 1) := dk_45 (dk_at dksX2_aPlace_7 4 rfl rfl)
theorem dX2_aPlace_168 : decode cX2_aPlace 168 = .ok (.iload 6, 2) := dk_21 6 (dk_at dksX2_aPlace_7 5 rfl rfl)
theorem dX2_aPlace_170 : decode cX2_aPlace 170 = .ok (.putfield 143, 3) := dk_181 0 143 (dk_at dksX2_aPlace_7 7 rfl rfl)
theorem dX2_aPlace_173 : decode cX2_aPlace 173 = .ok (.goto 25, 3) := dk_167 0 25 (dk_at dksX2_aPlace_7 10 rfl rfl)
theorem dX2_aPlace_176 : decode cX2_aPlace 176 = .ok (.iload 5, 2) := dk_21 5 (dk_at dksX2_aPlace_7 13 rfl rfl)
theorem dX2_aPlace_178 : decode cX2_aPlace 178 = .ok (.bipush 6, 2) := dk_16 6 (dk_at dksX2_aPlace_7 15 rfl rfl)
theorem dX2_aPlace_180 : decode cX2_aPlace 180 = .ok (.if_icmp .ne 12, 3) := dk_160 0 12 (dk_at dksX2_aPlace_7 17 rfl rfl)
theorem dX2_aPlace_183 : decode cX2_aPlace 183 = .ok (.aload_n 3, 1) := dk_45 (dk_at dksX2_aPlace_7 20 rfl rfl)
theorem dX2_aPlace_184 : decode cX2_aPlace 184 = .ok (.iload 6, 2) := dk_21 6 (dk_at dksX2_aPlace_7 21 rfl rfl)
theorem dX2_aPlace_186 : decode cX2_aPlace 186 = .ok (.putfield 146, 3) := dk_181 0 146 (dk_at dksX2_aPlace_8 0 rfl rfl)
theorem dX2_aPlace_189 : decode cX2_aPlace 189 = .ok (.goto 9, 3) := dk_167 0 9 (dk_at dksX2_aPlace_8 3 rfl rfl)
theorem dX2_aPlace_192 : decode cX2_aPlace 192 = .ok (.aload_n 3, 1) := dk_45 (dk_at dksX2_aPlace_8 6 rfl rfl)
theorem dX2_aPlace_193 : decode cX2_aPlace 193 = .ok (.iload 6, 2) := dk_21 6 (dk_at dksX2_aPlace_8 7 rfl rfl)
theorem dX2_aPlace_195 : decode cX2_aPlace 195 = .ok (.putfield 149, 3) := dk_181 0 149 (dk_at dksX2_aPlace_8 9 rfl rfl)
theorem dX2_aPlace_198 : decode cX2_aPlace 198 = .ok (.aload_n 0, 1) := dk_42 (dk_at dksX2_aPlace_8 12 rfl rfl)
theorem dX2_aPlace_199 : decode cX2_aPlace 199 = .ok (.invokevirtual 78, 3) := dk_182 0 78 (dk_at dksX2_aPlace_8 13 rfl rfl)
theorem dX2_aPlace_202 : decode cX2_aPlace 202 = .ok (.istore 5, 2) := dk_54 5 (dk_at dksX2_aPlace_8 16 rfl rfl)
theorem dX2_aPlace_204 : decode cX2_aPlace 204 = .ok (.goto (-105), 3) := dk_167 255 151 (dk_at dksX2_aPlace_8 18 rfl rfl)
theorem dX2_aPlace_207 : decode cX2_aPlace 207 = .ok (.return_, 1) := dk_177 (dk_at dksX2_aPlace_8 21 rfl rfl)
abbrev cX2_name : ByteArray := prog_7_method_10_code
def yX2_name : MethodName := ⟨RX2, "name", "()J"⟩
def dkwX2_name_3 : List UInt8 := [31, 173]
abbrev dktX2_name_3 : List UInt8 := dkwX2_name_3 ++ []
def dkwX2_name_2 : List UInt8 := [180, 0, 23, 162, 0, 21, 31, 16, 8, 121, 42, 29, 182, 0, 26, 133, 129, 64, 132, 3, 1, 167, 255, 233]
abbrev dktX2_name_2 : List UInt8 := dkwX2_name_2 ++ dktX2_name_3
def dkwX2_name_1 : List UInt8 := [182, 0, 78, 2, 160, 0, 7, 4, 167, 0, 4, 3, 182, 0, 81, 9, 64, 42, 180, 0, 30, 62, 29, 42]
abbrev dktX2_name_1 : List UInt8 := dkwX2_name_1 ++ dktX2_name_2
def dkwX2_name_0 : List UInt8 := [42, 42, 180, 0, 36, 5, 160, 0, 29, 42, 180, 0, 23, 42, 180, 0, 30, 100, 16, 8, 163, 0, 15, 42]
abbrev dktX2_name_0 : List UInt8 := dkwX2_name_0 ++ dktX2_name_1
theorem dksX2_name_0 : cX2_name.data.toList.drop 0 = dktX2_name_0 := by decide +kernel
theorem dksX2_name_1 : cX2_name.data.toList.drop 24 = dktX2_name_1 := dk_seg dksX2_name_0 24 rfl rfl
theorem dksX2_name_2 : cX2_name.data.toList.drop 48 = dktX2_name_2 := dk_seg dksX2_name_1 24 rfl rfl
theorem dksX2_name_3 : cX2_name.data.toList.drop 72 = dktX2_name_3 := dk_seg dksX2_name_2 24 rfl rfl
theorem dX2_name_0 : decode cX2_name 0 = .ok (.aload_n 0, 1) := dk_42 (dk_at dksX2_name_0 0 rfl rfl)
theorem dX2_name_1 : decode cX2_name 1 = .ok (.aload_n 0, 1) := dk_42 (dk_at dksX2_name_0 1 rfl rfl)
theorem dX2_name_2 : decode cX2_name 2 = .ok (.getfield 36, 3) := dk_180 0 36 (dk_at dksX2_name_0 2 rfl rfl)
theorem dX2_name_5 : decode cX2_name 5 = .ok (.iconst 2, 1) := dk_5 (dk_at dksX2_name_0 5 rfl rfl)
theorem dX2_name_6 : decode cX2_name 6 = .ok (.if_icmp .ne 29, 3) := dk_160 0 29 (dk_at dksX2_name_0 6 rfl rfl)
theorem dX2_name_9 : decode cX2_name 9 = .ok (.aload_n 0, 1) := dk_42 (dk_at dksX2_name_0 9 rfl rfl)
theorem dX2_name_10 : decode cX2_name 10 = .ok (.getfield 23, 3) := dk_180 0 23 (dk_at dksX2_name_0 10 rfl rfl)
theorem dX2_name_13 : decode cX2_name 13 = .ok (.aload_n 0, 1) := dk_42 (dk_at dksX2_name_0 13 rfl rfl)
theorem dX2_name_14 : decode cX2_name 14 = .ok (.getfield 30, 3) := dk_180 0 30 (dk_at dksX2_name_0 14 rfl rfl)
theorem dX2_name_17 : decode cX2_name 17 = .ok (.isub, 1) := dk_100 (dk_at dksX2_name_0 17 rfl rfl)
theorem dX2_name_18 : decode cX2_name 18 = .ok (.bipush 8, 2) := dk_16 8 (dk_at dksX2_name_0 18 rfl rfl)
theorem dX2_name_20 : decode cX2_name 20 = .ok (.if_icmp .gt 15, 3) := dk_163 0 15 (dk_at dksX2_name_0 20 rfl rfl)
theorem dX2_name_23 : decode cX2_name 23 = .ok (.aload_n 0, 1) := dk_42 (dk_at dksX2_name_0 23 rfl rfl)
theorem dX2_name_24 : decode cX2_name 24 = .ok (.invokevirtual 78, 3) := dk_182 0 78 (dk_at dksX2_name_1 0 rfl rfl)
theorem dX2_name_27 : decode cX2_name 27 = .ok (.iconst (-1), 1) := dk_2 (dk_at dksX2_name_1 3 rfl rfl)
theorem dX2_name_28 : decode cX2_name 28 = .ok (.if_icmp .ne 7, 3) := dk_160 0 7 (dk_at dksX2_name_1 4 rfl rfl)
theorem dX2_name_31 : decode cX2_name 31 = .ok (.iconst 1, 1) := dk_4 (dk_at dksX2_name_1 7 rfl rfl)
theorem dX2_name_32 : decode cX2_name 32 = .ok (.goto 4, 3) := dk_167 0 4 (dk_at dksX2_name_1 8 rfl rfl)
theorem dX2_name_35 : decode cX2_name 35 = .ok (.iconst 0, 1) := dk_3 (dk_at dksX2_name_1 11 rfl rfl)
theorem dX2_name_36 : decode cX2_name 36 = .ok (.invokevirtual 81, 3) := dk_182 0 81 (dk_at dksX2_name_1 12 rfl rfl)
theorem dX2_name_39 : decode cX2_name 39 = .ok (.lconst 0, 1) := dk_9 (dk_at dksX2_name_1 15 rfl rfl)
theorem dX2_name_40 : decode cX2_name 40 = .ok (.lstore_n 1, 1) := dk_64 (dk_at dksX2_name_1 16 rfl rfl)
theorem dX2_name_41 : decode cX2_name 41 = .ok (.aload_n 0, 1) := dk_42 (dk_at dksX2_name_1 17 rfl rfl)
theorem dX2_name_42 : decode cX2_name 42 = .ok (.getfield 30, 3) := dk_180 0 30 (dk_at dksX2_name_1 18 rfl rfl)
theorem dX2_name_45 : decode cX2_name 45 = .ok (.istore_n 3, 1) := dk_62 (dk_at dksX2_name_1 21 rfl rfl)
theorem dX2_name_46 : decode cX2_name 46 = .ok (.iload_n 3, 1) := dk_29 (dk_at dksX2_name_1 22 rfl rfl)
theorem dX2_name_47 : decode cX2_name 47 = .ok (.aload_n 0, 1) := dk_42 (dk_at dksX2_name_1 23 rfl rfl)
theorem dX2_name_48 : decode cX2_name 48 = .ok (.getfield 23, 3) := dk_180 0 23 (dk_at dksX2_name_2 0 rfl rfl)
theorem dX2_name_51 : decode cX2_name 51 = .ok (.if_icmp .ge 21, 3) := dk_162 0 21 (dk_at dksX2_name_2 3 rfl rfl)
theorem dX2_name_54 : decode cX2_name 54 = .ok (.lload_n 1, 1) := dk_31 (dk_at dksX2_name_2 6 rfl rfl)
theorem dX2_name_55 : decode cX2_name 55 = .ok (.bipush 8, 2) := dk_16 8 (dk_at dksX2_name_2 7 rfl rfl)
theorem dX2_name_57 : decode cX2_name 57 = .ok (.lshl, 1) := dk_121 (dk_at dksX2_name_2 9 rfl rfl)
theorem dX2_name_58 : decode cX2_name 58 = .ok (.aload_n 0, 1) := dk_42 (dk_at dksX2_name_2 10 rfl rfl)
theorem dX2_name_59 : decode cX2_name 59 = .ok (.iload_n 3, 1) := dk_29 (dk_at dksX2_name_2 11 rfl rfl)
theorem dX2_name_60 : decode cX2_name 60 = .ok (.invokevirtual 26, 3) := dk_182 0 26 (dk_at dksX2_name_2 12 rfl rfl)
theorem dX2_name_63 : decode cX2_name 63 = .ok (.i2l, 1) := dk_133 (dk_at dksX2_name_2 15 rfl rfl)
theorem dX2_name_64 : decode cX2_name 64 = .ok (.lor, 1) := dk_129 (dk_at dksX2_name_2 16 rfl rfl)
theorem dX2_name_65 : decode cX2_name 65 = .ok (.lstore_n 1, 1) := dk_64 (dk_at dksX2_name_2 17 rfl rfl)
theorem dX2_name_66 : decode cX2_name 66 = .ok (.iinc 3 1, 3) := dk_132 3 1 (dk_at dksX2_name_2 18 rfl rfl)
theorem dX2_name_69 : decode cX2_name 69 = .ok (.goto (-23), 3) := dk_167 255 233 (dk_at dksX2_name_2 21 rfl rfl)
theorem dX2_name_72 : decode cX2_name 72 = .ok (.lload_n 1, 1) := dk_31 (dk_at dksX2_name_3 0 rfl rfl)
theorem dX2_name_73 : decode cX2_name 73 = .ok (.lreturn, 1) := dk_173 (dk_at dksX2_name_3 1 rfl rfl)
abbrev cX2_passed : ByteArray := prog_7_method_11_code
def yX2_passed : MethodName := ⟨RX2, "passed", "(II)I"⟩
def dkwX2_passed_2 : List UInt8 := [182, 0, 85, 29, 172]
abbrev dktX2_passed_2 : List UInt8 := dkwX2_passed_2 ++ []
def dkwX2_passed_1 : List UInt8 := [161, 0, 11, 42, 180, 0, 33, 28, 164, 0, 9, 42, 7, 182, 0, 58, 191, 42, 180, 0, 33, 62, 42]
abbrev dktX2_passed_1 : List UInt8 := dkwX2_passed_1 ++ dktX2_passed_2
def dkwX2_passed_0 : List UInt8 := [42, 42, 180, 0, 36, 6, 160, 0, 7, 4, 167, 0, 4, 3, 182, 0, 81, 42, 180, 0, 33, 27]
abbrev dktX2_passed_0 : List UInt8 := dkwX2_passed_0 ++ dktX2_passed_1
theorem dksX2_passed_0 : cX2_passed.data.toList.drop 0 = dktX2_passed_0 := by decide +kernel
theorem dksX2_passed_1 : cX2_passed.data.toList.drop 22 = dktX2_passed_1 := dk_seg dksX2_passed_0 22 rfl rfl
theorem dksX2_passed_2 : cX2_passed.data.toList.drop 45 = dktX2_passed_2 := dk_seg dksX2_passed_1 23 rfl rfl
theorem dX2_passed_0 : decode cX2_passed 0 = .ok (.aload_n 0, 1) := dk_42 (dk_at dksX2_passed_0 0 rfl rfl)
theorem dX2_passed_1 : decode cX2_passed 1 = .ok (.aload_n 0, 1) := dk_42 (dk_at dksX2_passed_0 1 rfl rfl)
theorem dX2_passed_2 : decode cX2_passed 2 = .ok (.getfield 36, 3) := dk_180 0 36 (dk_at dksX2_passed_0 2 rfl rfl)
theorem dX2_passed_5 : decode cX2_passed 5 = .ok (.iconst 3, 1) := dk_6 (dk_at dksX2_passed_0 5 rfl rfl)
theorem dX2_passed_6 : decode cX2_passed 6 = .ok (.if_icmp .ne 7, 3) := dk_160 0 7 (dk_at dksX2_passed_0 6 rfl rfl)
theorem dX2_passed_9 : decode cX2_passed 9 = .ok (.iconst 1, 1) := dk_4 (dk_at dksX2_passed_0 9 rfl rfl)
theorem dX2_passed_10 : decode cX2_passed 10 = .ok (.goto 4, 3) := dk_167 0 4 (dk_at dksX2_passed_0 10 rfl rfl)
theorem dX2_passed_13 : decode cX2_passed 13 = .ok (.iconst 0, 1) := dk_3 (dk_at dksX2_passed_0 13 rfl rfl)
theorem dX2_passed_14 : decode cX2_passed 14 = .ok (.invokevirtual 81, 3) := dk_182 0 81 (dk_at dksX2_passed_0 14 rfl rfl)
theorem dX2_passed_17 : decode cX2_passed 17 = .ok (.aload_n 0, 1) := dk_42 (dk_at dksX2_passed_0 17 rfl rfl)
theorem dX2_passed_18 : decode cX2_passed 18 = .ok (.getfield 33, 3) := dk_180 0 33 (dk_at dksX2_passed_0 18 rfl rfl)
theorem dX2_passed_21 : decode cX2_passed 21 = .ok (.iload_n 1, 1) := dk_27 (dk_at dksX2_passed_0 21 rfl rfl)
theorem dX2_passed_22 : decode cX2_passed 22 = .ok (.if_icmp .lt 11, 3) := dk_161 0 11 (dk_at dksX2_passed_1 0 rfl rfl)
theorem dX2_passed_25 : decode cX2_passed 25 = .ok (.aload_n 0, 1) := dk_42 (dk_at dksX2_passed_1 3 rfl rfl)
theorem dX2_passed_26 : decode cX2_passed 26 = .ok (.getfield 33, 3) := dk_180 0 33 (dk_at dksX2_passed_1 4 rfl rfl)
theorem dX2_passed_29 : decode cX2_passed 29 = .ok (.iload_n 2, 1) := dk_28 (dk_at dksX2_passed_1 7 rfl rfl)
theorem dX2_passed_30 : decode cX2_passed 30 = .ok (.if_icmp .le 9, 3) := dk_164 0 9 (dk_at dksX2_passed_1 8 rfl rfl)
theorem dX2_passed_33 : decode cX2_passed 33 = .ok (.aload_n 0, 1) := dk_42 (dk_at dksX2_passed_1 11 rfl rfl)
theorem dX2_passed_34 : decode cX2_passed 34 = .ok (.iconst 4, 1) := dk_7 (dk_at dksX2_passed_1 12 rfl rfl)
theorem dX2_passed_35 : decode cX2_passed 35 = .ok (.invokevirtual 58, 3) := dk_182 0 58 (dk_at dksX2_passed_1 13 rfl rfl)
theorem dX2_passed_38 : decode cX2_passed 38 = .ok (.athrow, 1) := dk_191 (dk_at dksX2_passed_1 16 rfl rfl)
theorem dX2_passed_39 : decode cX2_passed 39 = .ok (.aload_n 0, 1) := dk_42 (dk_at dksX2_passed_1 17 rfl rfl)
theorem dX2_passed_40 : decode cX2_passed 40 = .ok (.getfield 33, 3) := dk_180 0 33 (dk_at dksX2_passed_1 18 rfl rfl)
theorem dX2_passed_43 : decode cX2_passed 43 = .ok (.istore_n 3, 1) := dk_62 (dk_at dksX2_passed_1 21 rfl rfl)
theorem dX2_passed_44 : decode cX2_passed 44 = .ok (.aload_n 0, 1) := dk_42 (dk_at dksX2_passed_1 22 rfl rfl)
theorem dX2_passed_45 : decode cX2_passed 45 = .ok (.invokevirtual 85, 3) := dk_182 0 85 (dk_at dksX2_passed_2 0 rfl rfl)
theorem dX2_passed_48 : decode cX2_passed 48 = .ok (.iload_n 3, 1) := dk_29 (dk_at dksX2_passed_2 3 rfl rfl)
theorem dX2_passed_49 : decode cX2_passed 49 = .ok (.ireturn, 1) := dk_172 (dk_at dksX2_passed_2 4 rfl rfl)
abbrev cX2_aLane : ByteArray := prog_7_method_16_code
def yX2_aLane : MethodName := ⟨RX2, "aLane", "()V"⟩
def dkwX2_aLane_3 : List UInt8 := [180, 0, 94, 180, 0, 101, 45, 83, 42, 180, 0, 94, 89, 180, 0, 101, 4, 96, 181, 0, 101, 177]
abbrev dktX2_aLane_3 : List UInt8 := dkwX2_aLane_3 ++ []
def dkwX2_aLane_2 : List UInt8 := [183, 0, 163, 78, 43, 45, 182, 0, 166, 44, 45, 182, 0, 166, 42, 180, 0, 94, 180, 0, 170, 42]
abbrev dktX2_aLane_2 : List UInt8 := dkwX2_aLane_2 ++ dktX2_aLane_3
def dkwX2_aLane_1 : List UInt8 := [3, 182, 0, 81, 42, 182, 0, 85, 42, 43, 182, 0, 157, 77, 42, 182, 0, 85, 187, 0, 161, 89, 43, 44]
abbrev dktX2_aLane_1 : List UInt8 := dkwX2_aLane_1 ++ dktX2_aLane_2
def dkwX2_aLane_0 : List UInt8 := [42, 1, 182, 0, 157, 76, 42, 182, 0, 85, 42, 42, 182, 0, 78, 16, 8, 160, 0, 7, 4, 167, 0, 4]
abbrev dktX2_aLane_0 : List UInt8 := dkwX2_aLane_0 ++ dktX2_aLane_1
theorem dksX2_aLane_0 : cX2_aLane.data.toList.drop 0 = dktX2_aLane_0 := by decide +kernel
theorem dksX2_aLane_1 : cX2_aLane.data.toList.drop 24 = dktX2_aLane_1 := dk_seg dksX2_aLane_0 24 rfl rfl
theorem dksX2_aLane_2 : cX2_aLane.data.toList.drop 48 = dktX2_aLane_2 := dk_seg dksX2_aLane_1 24 rfl rfl
theorem dksX2_aLane_3 : cX2_aLane.data.toList.drop 70 = dktX2_aLane_3 := dk_seg dksX2_aLane_2 22 rfl rfl
theorem dX2_aLane_0 : decode cX2_aLane 0 = .ok (.aload_n 0, 1) := dk_42 (dk_at dksX2_aLane_0 0 rfl rfl)
theorem dX2_aLane_1 : decode cX2_aLane 1 = .ok (.aconst_null, 1) := dk_1 (dk_at dksX2_aLane_0 1 rfl rfl)
theorem dX2_aLane_2 : decode cX2_aLane 2 = .ok (.invokevirtual 157, 3) := dk_182 0 157 (dk_at dksX2_aLane_0 2 rfl rfl)
theorem dX2_aLane_5 : decode cX2_aLane 5 = .ok (.astore_n 1, 1) := dk_76 (dk_at dksX2_aLane_0 5 rfl rfl)
theorem dX2_aLane_6 : decode cX2_aLane 6 = .ok (.aload_n 0, 1) := dk_42 (dk_at dksX2_aLane_0 6 rfl rfl)
theorem dX2_aLane_7 : decode cX2_aLane 7 = .ok (.invokevirtual 85, 3) := dk_182 0 85 (dk_at dksX2_aLane_0 7 rfl rfl)
theorem dX2_aLane_10 : decode cX2_aLane 10 = .ok (.aload_n 0, 1) := dk_42 (dk_at dksX2_aLane_0 10 rfl rfl)
theorem dX2_aLane_11 : decode cX2_aLane 11 = .ok (.aload_n 0, 1) := dk_42 (dk_at dksX2_aLane_0 11 rfl rfl)
theorem dX2_aLane_12 : decode cX2_aLane 12 = .ok (.invokevirtual 78, 3) := dk_182 0 78 (dk_at dksX2_aLane_0 12 rfl rfl)
theorem dX2_aLane_15 : decode cX2_aLane 15 = .ok (.bipush 8, 2) := dk_16 8 (dk_at dksX2_aLane_0 15 rfl rfl)
theorem dX2_aLane_17 : decode cX2_aLane 17 = .ok (.if_icmp .ne 7, 3) := dk_160 0 7 (dk_at dksX2_aLane_0 17 rfl rfl)
theorem dX2_aLane_20 : decode cX2_aLane 20 = .ok (.iconst 1, 1) := dk_4 (dk_at dksX2_aLane_0 20 rfl rfl)
theorem dX2_aLane_21 : decode cX2_aLane 21 = .ok (.goto 4, 3) := dk_167 0 4 (dk_at dksX2_aLane_0 21 rfl rfl)
theorem dX2_aLane_24 : decode cX2_aLane 24 = .ok (.iconst 0, 1) := dk_3 (dk_at dksX2_aLane_1 0 rfl rfl)
theorem dX2_aLane_25 : decode cX2_aLane 25 = .ok (.invokevirtual 81, 3) := dk_182 0 81 (dk_at dksX2_aLane_1 1 rfl rfl)
theorem dX2_aLane_28 : decode cX2_aLane 28 = .ok (.aload_n 0, 1) := dk_42 (dk_at dksX2_aLane_1 4 rfl rfl)
theorem dX2_aLane_29 : decode cX2_aLane 29 = .ok (.invokevirtual 85, 3) := dk_182 0 85 (dk_at dksX2_aLane_1 5 rfl rfl)
theorem dX2_aLane_32 : decode cX2_aLane 32 = .ok (.aload_n 0, 1) := dk_42 (dk_at dksX2_aLane_1 8 rfl rfl)
theorem dX2_aLane_33 : decode cX2_aLane 33 = .ok (.aload_n 1, 1) := dk_43 (dk_at dksX2_aLane_1 9 rfl rfl)
theorem dX2_aLane_34 : decode cX2_aLane 34 = .ok (.invokevirtual 157, 3) := dk_182 0 157 (dk_at dksX2_aLane_1 10 rfl rfl)
theorem dX2_aLane_37 : decode cX2_aLane 37 = .ok (.astore_n 2, 1) := dk_77 (dk_at dksX2_aLane_1 13 rfl rfl)
theorem dX2_aLane_38 : decode cX2_aLane 38 = .ok (.aload_n 0, 1) := dk_42 (dk_at dksX2_aLane_1 14 rfl rfl)
theorem dX2_aLane_39 : decode cX2_aLane 39 = .ok (.invokevirtual 85, 3) := dk_182 0 85 (dk_at dksX2_aLane_1 15 rfl rfl)
theorem dX2_aLane_42 : decode cX2_aLane 42 = .ok (.new 161, 3) := dk_187 0 161 (dk_at dksX2_aLane_1 18 rfl rfl)
theorem dX2_aLane_45 : decode cX2_aLane 45 = .ok (.dup, 1) := dk_89 (dk_at dksX2_aLane_1 21 rfl rfl)
theorem dX2_aLane_46 : decode cX2_aLane 46 = .ok (.aload_n 1, 1) := dk_43 (dk_at dksX2_aLane_1 22 rfl rfl)
theorem dX2_aLane_47 : decode cX2_aLane 47 = .ok (.aload_n 2, 1) := dk_44 (dk_at dksX2_aLane_1 23 rfl rfl)
theorem dX2_aLane_48 : decode cX2_aLane 48 = .ok (.invokespecial 163, 3) := dk_183 0 163 (dk_at dksX2_aLane_2 0 rfl rfl)
theorem dX2_aLane_51 : decode cX2_aLane 51 = .ok (.astore_n 3, 1) := dk_78 (dk_at dksX2_aLane_2 3 rfl rfl)
theorem dX2_aLane_52 : decode cX2_aLane 52 = .ok (.aload_n 1, 1) := dk_43 (dk_at dksX2_aLane_2 4 rfl rfl)
theorem dX2_aLane_53 : decode cX2_aLane 53 = .ok (.aload_n 3, 1) := dk_45 (dk_at dksX2_aLane_2 5 rfl rfl)
theorem dX2_aLane_54 : decode cX2_aLane 54 = .ok (.invokevirtual 166, 3) := dk_182 0 166 (dk_at dksX2_aLane_2 6 rfl rfl)
theorem dX2_aLane_57 : decode cX2_aLane 57 = .ok (.aload_n 2, 1) := dk_44 (dk_at dksX2_aLane_2 9 rfl rfl)
theorem dX2_aLane_58 : decode cX2_aLane 58 = .ok (.aload_n 3, 1) := dk_45 (dk_at dksX2_aLane_2 10 rfl rfl)
theorem dX2_aLane_59 : decode cX2_aLane 59 = .ok (.invokevirtual 166, 3) := dk_182 0 166 (dk_at dksX2_aLane_2 11 rfl rfl)
theorem dX2_aLane_62 : decode cX2_aLane 62 = .ok (.aload_n 0, 1) := dk_42 (dk_at dksX2_aLane_2 14 rfl rfl)
theorem dX2_aLane_63 : decode cX2_aLane 63 = .ok (.getfield 94, 3) := dk_180 0 94 (dk_at dksX2_aLane_2 15 rfl rfl)
theorem dX2_aLane_66 : decode cX2_aLane 66 = .ok (.getfield 170, 3) := dk_180 0 170 (dk_at dksX2_aLane_2 18 rfl rfl)
theorem dX2_aLane_69 : decode cX2_aLane 69 = .ok (.aload_n 0, 1) := dk_42 (dk_at dksX2_aLane_2 21 rfl rfl)
theorem dX2_aLane_70 : decode cX2_aLane 70 = .ok (.getfield 94, 3) := dk_180 0 94 (dk_at dksX2_aLane_3 0 rfl rfl)
theorem dX2_aLane_73 : decode cX2_aLane 73 = .ok (.getfield 101, 3) := dk_180 0 101 (dk_at dksX2_aLane_3 3 rfl rfl)
theorem dX2_aLane_76 : decode cX2_aLane 76 = .ok (.aload_n 3, 1) := dk_45 (dk_at dksX2_aLane_3 6 rfl rfl)
theorem dX2_aLane_77 : decode cX2_aLane 77 = .ok (.aastore, 1) := dk_83 (dk_at dksX2_aLane_3 7 rfl rfl)
theorem dX2_aLane_78 : decode cX2_aLane 78 = .ok (.aload_n 0, 1) := dk_42 (dk_at dksX2_aLane_3 8 rfl rfl)
theorem dX2_aLane_79 : decode cX2_aLane 79 = .ok (.getfield 94, 3) := dk_180 0 94 (dk_at dksX2_aLane_3 9 rfl rfl)
theorem dX2_aLane_82 : decode cX2_aLane 82 = .ok (.dup, 1) := dk_89 (dk_at dksX2_aLane_3 12 rfl rfl)
theorem dX2_aLane_83 : decode cX2_aLane 83 = .ok (.getfield 101, 3) := dk_180 0 101 (dk_at dksX2_aLane_3 13 rfl rfl)
theorem dX2_aLane_86 : decode cX2_aLane 86 = .ok (.iconst 1, 1) := dk_4 (dk_at dksX2_aLane_3 16 rfl rfl)
theorem dX2_aLane_87 : decode cX2_aLane 87 = .ok (.iadd, 1) := dk_96 (dk_at dksX2_aLane_3 17 rfl rfl)
theorem dX2_aLane_88 : decode cX2_aLane 88 = .ok (.putfield 101, 3) := dk_181 0 101 (dk_at dksX2_aLane_3 18 rfl rfl)
theorem dX2_aLane_91 : decode cX2_aLane 91 = .ok (.return_, 1) := dk_177 (dk_at dksX2_aLane_3 21 rfl rfl)
abbrev cX2_free : ByteArray := prog_7_method_15_code
def yX2_free : MethodName := ⟨RX2, "free", "(LTwoSeek$Place;)LTwoSeek$Place;"⟩
def dkwX2_free_2 : List UInt8 := [182, 0, 153, 153, 0, 10, 42, 16, 6, 182, 0, 58, 191, 44, 176]
abbrev dktX2_free_2 : List UInt8 := dkwX2_free_2 ++ []
def dkwX2_free_1 : List UInt8 := [166, 0, 9, 42, 8, 182, 0, 58, 191, 44, 180, 0, 152, 7, 159, 0, 15, 43, 198, 0, 18, 43, 44]
abbrev dktX2_free_1 : List UInt8 := dkwX2_free_1 ++ dktX2_free_2
def dkwX2_free_0 : List UInt8 := [42, 180, 0, 94, 42, 182, 0, 123, 182, 0, 127, 77, 44, 199, 0, 9, 42, 6, 182, 0, 58, 191, 44, 43]
abbrev dktX2_free_0 : List UInt8 := dkwX2_free_0 ++ dktX2_free_1
theorem dksX2_free_0 : cX2_free.data.toList.drop 0 = dktX2_free_0 := by decide +kernel
theorem dksX2_free_1 : cX2_free.data.toList.drop 24 = dktX2_free_1 := dk_seg dksX2_free_0 24 rfl rfl
theorem dksX2_free_2 : cX2_free.data.toList.drop 47 = dktX2_free_2 := dk_seg dksX2_free_1 23 rfl rfl
theorem dX2_free_0 : decode cX2_free 0 = .ok (.aload_n 0, 1) := dk_42 (dk_at dksX2_free_0 0 rfl rfl)
theorem dX2_free_1 : decode cX2_free 1 = .ok (.getfield 94, 3) := dk_180 0 94 (dk_at dksX2_free_0 1 rfl rfl)
theorem dX2_free_4 : decode cX2_free 4 = .ok (.aload_n 0, 1) := dk_42 (dk_at dksX2_free_0 4 rfl rfl)
theorem dX2_free_5 : decode cX2_free 5 = .ok (.invokevirtual 123, 3) := dk_182 0 123 (dk_at dksX2_free_0 5 rfl rfl)
theorem dX2_free_8 : decode cX2_free 8 = .ok (.invokevirtual 127, 3) := dk_182 0 127 (dk_at dksX2_free_0 8 rfl rfl)
theorem dX2_free_11 : decode cX2_free 11 = .ok (.astore_n 2, 1) := dk_77 (dk_at dksX2_free_0 11 rfl rfl)
theorem dX2_free_12 : decode cX2_free 12 = .ok (.aload_n 2, 1) := dk_44 (dk_at dksX2_free_0 12 rfl rfl)
theorem dX2_free_13 : decode cX2_free 13 = .ok (.ifnonnull 9, 3) := dk_199 0 9 (dk_at dksX2_free_0 13 rfl rfl)
theorem dX2_free_16 : decode cX2_free 16 = .ok (.aload_n 0, 1) := dk_42 (dk_at dksX2_free_0 16 rfl rfl)
theorem dX2_free_17 : decode cX2_free 17 = .ok (.iconst 3, 1) := dk_6 (dk_at dksX2_free_0 17 rfl rfl)
theorem dX2_free_18 : decode cX2_free 18 = .ok (.invokevirtual 58, 3) := dk_182 0 58 (dk_at dksX2_free_0 18 rfl rfl)
theorem dX2_free_21 : decode cX2_free 21 = .ok (.athrow, 1) := dk_191 (dk_at dksX2_free_0 21 rfl rfl)
theorem dX2_free_22 : decode cX2_free 22 = .ok (.aload_n 2, 1) := dk_44 (dk_at dksX2_free_0 22 rfl rfl)
theorem dX2_free_23 : decode cX2_free 23 = .ok (.aload_n 1, 1) := dk_43 (dk_at dksX2_free_0 23 rfl rfl)
theorem dX2_free_24 : decode cX2_free 24 = .ok (.if_acmp .ne 9, 3) := dk_166 0 9 (dk_at dksX2_free_1 0 rfl rfl)
theorem dX2_free_27 : decode cX2_free 27 = .ok (.aload_n 0, 1) := dk_42 (dk_at dksX2_free_1 3 rfl rfl)
theorem dX2_free_28 : decode cX2_free 28 = .ok (.iconst 5, 1) := dk_8 (dk_at dksX2_free_1 4 rfl rfl)
theorem dX2_free_29 : decode cX2_free 29 = .ok (.invokevirtual 58, 3) := dk_182 0 58 (dk_at dksX2_free_1 5 rfl rfl)
theorem dX2_free_32 : decode cX2_free 32 = .ok (.athrow, 1) := dk_191 (dk_at dksX2_free_1 8 rfl rfl)
theorem dX2_free_33 : decode cX2_free 33 = .ok (.aload_n 2, 1) := dk_44 (dk_at dksX2_free_1 9 rfl rfl)
theorem dX2_free_34 : decode cX2_free 34 = .ok (.getfield 152, 3) := dk_180 0 152 (dk_at dksX2_free_1 10 rfl rfl)
theorem dX2_free_37 : decode cX2_free 37 = .ok (.iconst 4, 1) := dk_7 (dk_at dksX2_free_1 13 rfl rfl)
theorem dX2_free_38 : decode cX2_free 38 = .ok (.if_icmp .eq 15, 3) := dk_159 0 15 (dk_at dksX2_free_1 14 rfl rfl)
theorem dX2_free_41 : decode cX2_free 41 = .ok (.aload_n 1, 1) := dk_43 (dk_at dksX2_free_1 17 rfl rfl)
theorem dX2_free_42 : decode cX2_free 42 = .ok (.ifnull 18, 3) := dk_198 0 18 (dk_at dksX2_free_1 18 rfl rfl)
theorem dX2_free_45 : decode cX2_free 45 = .ok (.aload_n 1, 1) := dk_43 (dk_at dksX2_free_1 21 rfl rfl)
theorem dX2_free_46 : decode cX2_free 46 = .ok (.aload_n 2, 1) := dk_44 (dk_at dksX2_free_1 22 rfl rfl)
theorem dX2_free_47 : decode cX2_free 47 = .ok (.invokevirtual 153, 3) := dk_182 0 153 (dk_at dksX2_free_2 0 rfl rfl)
theorem dX2_free_50 : decode cX2_free 50 = .ok (.ifCond .eq 10, 3) := dk_153 0 10 (dk_at dksX2_free_2 3 rfl rfl)
theorem dX2_free_53 : decode cX2_free 53 = .ok (.aload_n 0, 1) := dk_42 (dk_at dksX2_free_2 6 rfl rfl)
theorem dX2_free_54 : decode cX2_free 54 = .ok (.bipush 6, 2) := dk_16 6 (dk_at dksX2_free_2 7 rfl rfl)
theorem dX2_free_56 : decode cX2_free 56 = .ok (.invokevirtual 58, 3) := dk_182 0 58 (dk_at dksX2_free_2 9 rfl rfl)
theorem dX2_free_59 : decode cX2_free 59 = .ok (.athrow, 1) := dk_191 (dk_at dksX2_free_2 12 rfl rfl)
theorem dX2_free_60 : decode cX2_free 60 = .ok (.aload_n 2, 1) := dk_44 (dk_at dksX2_free_2 13 rfl rfl)
theorem dX2_free_61 : decode cX2_free 61 = .ok (.areturn, 1) := dk_176 (dk_at dksX2_free_2 14 rfl rfl)
theorem q121 : (Jvm.Cond.initialized "TwoSeek$Reader") ∈ lw_all := lw_g (lw_at lw_m1 6 rfl) rfl
theorem q241 : (Jvm.Cond.instantiable "TwoSeek$Reader" (10 : Nat)) ∈ lw_all := lw_g (lw_at lw_m1 126 rfl) rfl
theorem q243 : (Jvm.Cond.instanceMethod ({ cls := "TwoSeek$Reader", name := "<init>", desc := "(LTwoSeek$Wrong;)V" } : Jvm.MethodName)) ∈ lw_all := lw_g (lw_at lw_m1 128 rfl) rfl
theorem q244 : (Jvm.Cond.code ({ cls := "TwoSeek$Reader", name := "<init>", desc := "(LTwoSeek$Wrong;)V" } : Jvm.MethodName) prog_7_method_1_code (2 : Nat) (Option.none : Option Jvm.ClassFile.FieldType)) ∈ lw_all := lw_g (lw_at lw_m1 129 rfl) rfl
theorem q245 : (Jvm.Cond.methodLink "TwoSeek$Reader" (3 : Nat) ({ cls := "java/lang/Object", name := "<init>", desc := "()V" } : Jvm.MethodName)) ∈ lw_all := lw_g (lw_at lw_m1 130 rfl) rfl
theorem q246 : (Jvm.Cond.fieldLink "TwoSeek$Reader" (9 : Nat) "TwoSeek$Reader" "tape" "[B") ∈ lw_all := lw_g (lw_at lw_m1 131 rfl) rfl
theorem q249 : (Jvm.Cond.fieldLink "TwoSeek$Reader" (19 : Nat) "TwoSeek$Reader" "size" "I") ∈ lw_all := lw_g (lw_at lw_m1 134 rfl) rfl
theorem q250 : (Jvm.Cond.fieldLink "TwoSeek$Reader" (36 : Nat) "TwoSeek$Reader" "sort" "I") ∈ lw_all := lw_g (lw_at lw_m1 135 rfl) rfl
theorem q251 : (Jvm.Cond.fieldLink "TwoSeek$Reader" (30 : Nat) "TwoSeek$Reader" "from" "I") ∈ lw_all := lw_g (lw_at lw_m1 136 rfl) rfl
theorem q252 : (Jvm.Cond.fieldLink "TwoSeek$Reader" (23 : Nat) "TwoSeek$Reader" "end" "I") ∈ lw_all := lw_g (lw_at lw_m1 137 rfl) rfl
theorem q253 : (Jvm.Cond.fieldLink "TwoSeek$Reader" (33 : Nat) "TwoSeek$Reader" "value" "I") ∈ lw_all := lw_g (lw_at lw_m1 138 rfl) rfl
theorem q254 : (Jvm.Cond.fieldLink "TwoSeek$Reader" (88 : Nat) "TwoSeek$Reader" "told" "I") ∈ lw_all := lw_g (lw_at lw_m1 139 rfl) rfl
theorem q255 : (Jvm.Cond.fieldLink "TwoSeek$Reader" (94 : Nat) "TwoSeek$Reader" "town" "LTwoSeek$Town;") ∈ lw_all := lw_g (lw_at lw_m1 140 rfl) rfl
theorem q256 : (Jvm.Cond.fieldLink "TwoSeek$Reader" (15 : Nat) "TwoSeek$Reader" "wrong" "LTwoSeek$Wrong;") ∈ lw_all := lw_g (lw_at lw_m1 141 rfl) rfl
theorem q257 : (Jvm.Cond.laysFinal "TwoSeek$Reader" "TwoSeek$Reader" "tape" "[B") ∈ lw_all := lw_g (lw_at lw_m1 142 rfl) rfl
theorem q258 : (Jvm.Cond.soleField "TwoSeek$Reader" "tape") ∈ lw_all := lw_g (lw_at lw_m1 143 rfl) rfl
theorem q259 : (Jvm.Cond.lays "TwoSeek$Reader" "TwoSeek$Reader" "taped" "I") ∈ lw_all := lw_g (lw_at lw_m1 144 rfl) rfl
theorem q260 : (Jvm.Cond.soleField "TwoSeek$Reader" "taped") ∈ lw_all := lw_g (lw_at lw_m1 145 rfl) rfl
theorem q261 : (Jvm.Cond.lays "TwoSeek$Reader" "TwoSeek$Reader" "size" "I") ∈ lw_all := lw_g (lw_at lw_m1 146 rfl) rfl
theorem q262 : (Jvm.Cond.soleField "TwoSeek$Reader" "size") ∈ lw_all := lw_g (lw_at lw_m1 147 rfl) rfl
theorem q263 : (Jvm.Cond.lays "TwoSeek$Reader" "TwoSeek$Reader" "sort" "I") ∈ lw_all := lw_g (lw_at lw_m1 148 rfl) rfl
theorem q264 : (Jvm.Cond.soleField "TwoSeek$Reader" "sort") ∈ lw_all := lw_g (lw_at lw_m1 149 rfl) rfl
theorem q265 : (Jvm.Cond.lays "TwoSeek$Reader" "TwoSeek$Reader" "from" "I") ∈ lw_all := lw_g (lw_at lw_m1 150 rfl) rfl
theorem q266 : (Jvm.Cond.soleField "TwoSeek$Reader" "from") ∈ lw_all := lw_g (lw_at lw_m1 151 rfl) rfl
theorem q267 : (Jvm.Cond.lays "TwoSeek$Reader" "TwoSeek$Reader" "end" "I") ∈ lw_all := lw_g (lw_at lw_m1 152 rfl) rfl
theorem q268 : (Jvm.Cond.soleField "TwoSeek$Reader" "end") ∈ lw_all := lw_g (lw_at lw_m1 153 rfl) rfl
theorem q269 : (Jvm.Cond.lays "TwoSeek$Reader" "TwoSeek$Reader" "value" "I") ∈ lw_all := lw_g (lw_at lw_m1 154 rfl) rfl
theorem q270 : (Jvm.Cond.soleField "TwoSeek$Reader" "value") ∈ lw_all := lw_g (lw_at lw_m1 155 rfl) rfl
theorem q271 : (Jvm.Cond.lays "TwoSeek$Reader" "TwoSeek$Reader" "told" "I") ∈ lw_all := lw_g (lw_at lw_m1 156 rfl) rfl
theorem q272 : (Jvm.Cond.soleField "TwoSeek$Reader" "told") ∈ lw_all := lw_g (lw_at lw_m1 157 rfl) rfl
theorem q273 : (Jvm.Cond.lays "TwoSeek$Reader" "TwoSeek$Reader" "town" "LTwoSeek$Town;") ∈ lw_all := lw_g (lw_at lw_m1 158 rfl) rfl
theorem q274 : (Jvm.Cond.soleField "TwoSeek$Reader" "town") ∈ lw_all := lw_g (lw_at lw_m1 159 rfl) rfl
theorem q275 : (Jvm.Cond.laysFinal "TwoSeek$Reader" "TwoSeek$Reader" "wrong" "LTwoSeek$Wrong;") ∈ lw_all := lw_g (lw_at lw_m1 160 rfl) rfl
theorem q276 : (Jvm.Cond.soleField "TwoSeek$Reader" "wrong") ∈ lw_all := lw_g (lw_at lw_m1 161 rfl) rfl
theorem q277 : (Jvm.Cond.superclass "TwoSeek$Reader" "java/lang/Object") ∈ lw_all := lw_g (lw_at lw_m1 162 rfl) rfl
theorem q318 : (Jvm.Cond.fieldLinkNest "TwoSeek$Reader" (139 : Nat) "TwoSeek$Town" "places" "[LTwoSeek$Place;" "TwoSeek") ∈ lw_tbl := lw_at lw_m1 203 rfl
theorem q321 : (Jvm.Cond.fieldLinkNest "TwoSeek$Reader" (170 : Nat) "TwoSeek$Town" "lanes" "[LTwoSeek$Lane;" "TwoSeek") ∈ lw_tbl := lw_at lw_m1 206 rfl
theorem q324 : (Jvm.Cond.fieldLinkNest "TwoSeek$Reader" (131 : Nat) "TwoSeek$Town" "many" "I" "TwoSeek") ∈ lw_tbl := lw_at lw_m1 209 rfl
theorem q326 : (Jvm.Cond.fieldLinkNest "TwoSeek$Reader" (101 : Nat) "TwoSeek$Town" "laneMany" "I" "TwoSeek") ∈ lw_tbl := lw_at lw_m1 211 rfl
theorem q329 : (Jvm.Cond.fieldLinkNest "TwoSeek$Reader" (117 : Nat) "TwoSeek$Town" "slow" "I" "TwoSeek") ∈ lw_tbl := lw_at lw_m1 214 rfl
theorem q331 : (Jvm.Cond.fieldLinkNest "TwoSeek$Reader" (120 : Nat) "TwoSeek$Town" "hears" "I" "TwoSeek") ∈ lw_tbl := lw_at lw_m1 216 rfl
theorem q333 : (Jvm.Cond.fieldLinkNest "TwoSeek$Reader" (110 : Nat) "TwoSeek$Town" "crosses" "Z" "TwoSeek") ∈ lw_tbl := lw_at lw_m1 218 rfl
theorem q666 : (Jvm.Cond.instanceMethod ({ cls := "TwoSeek$Reader", name := "read", desc := "(I)LTwoSeek$Town;" } : Jvm.MethodName)) ∈ lw_all := lw_g (lw_at lw_m3 71 rfl) rfl
theorem q667 : (Jvm.Cond.selects "TwoSeek$Reader" ({ cls := "TwoSeek$Reader", name := "read", desc := "(I)LTwoSeek$Town;" } : Jvm.MethodName) ({ cls := "TwoSeek$Reader", name := "read", desc := "(I)LTwoSeek$Town;" } : Jvm.MethodName)) ∈ lw_all := lw_g (lw_at lw_m3 72 rfl) rfl
theorem q668 : (Jvm.Cond.code ({ cls := "TwoSeek$Reader", name := "read", desc := "(I)LTwoSeek$Town;" } : Jvm.MethodName) prog_7_method_12_code (2 : Nat) (Option.some (Jvm.ClassFile.FieldType.object "TwoSeek$Town"))) ∈ lw_all := lw_g (lw_at lw_m3 73 rfl) rfl
theorem q669 : (Jvm.Cond.classLink "TwoSeek$Reader" (91 : Nat) "TwoSeek$Town") ∈ lw_all := lw_g (lw_at lw_m3 74 rfl) rfl
theorem q670 : (Jvm.Cond.methodLinkNest "TwoSeek$Reader" (93 : Nat) ({ cls := "TwoSeek$Town", name := "<init>", desc := "()V" } : Jvm.MethodName) "TwoSeek") ∈ lw_tbl := lw_at lw_m3 75 rfl
theorem q671 : (Jvm.Cond.methodLink "TwoSeek$Reader" (85 : Nat) ({ cls := "TwoSeek$Reader", name := "next", desc := "()V" } : Jvm.MethodName)) ∈ lw_all := lw_g (lw_at lw_m3 76 rfl) rfl
theorem q672 : (Jvm.Cond.privateMethod ({ cls := "TwoSeek$Reader", name := "next", desc := "()V" } : Jvm.MethodName)) ∈ lw_tbl := lw_at lw_m3 77 rfl
theorem q673 : (Jvm.Cond.instanceMethod ({ cls := "TwoSeek$Reader", name := "next", desc := "()V" } : Jvm.MethodName)) ∈ lw_all := lw_g (lw_at lw_m3 78 rfl) rfl
theorem q674 : (Jvm.Cond.code ({ cls := "TwoSeek$Reader", name := "next", desc := "()V" } : Jvm.MethodName) prog_7_method_5_code (2 : Nat) (Option.none : Option Jvm.ClassFile.FieldType)) ∈ lw_all := lw_g (lw_at lw_m3 79 rfl) rfl
theorem q675 : (Jvm.Cond.methodLink "TwoSeek$Reader" (26 : Nat) ({ cls := "TwoSeek$Reader", name := "at", desc := "(I)I" } : Jvm.MethodName)) ∈ lw_all := lw_g (lw_at lw_m3 80 rfl) rfl
theorem q676 : (Jvm.Cond.privateMethod ({ cls := "TwoSeek$Reader", name := "at", desc := "(I)I" } : Jvm.MethodName)) ∈ lw_tbl := lw_at lw_m3 81 rfl
theorem q677 : (Jvm.Cond.instanceMethod ({ cls := "TwoSeek$Reader", name := "at", desc := "(I)I" } : Jvm.MethodName)) ∈ lw_all := lw_g (lw_at lw_m3 82 rfl) rfl
theorem q678 : (Jvm.Cond.code ({ cls := "TwoSeek$Reader", name := "at", desc := "(I)I" } : Jvm.MethodName) prog_7_method_2_code (2 : Nat) (Option.some Jvm.ClassFile.FieldType.int)) ∈ lw_all := lw_g (lw_at lw_m3 83 rfl) rfl
theorem q679 : (Jvm.Cond.methodLink "TwoSeek$Reader" (39 : Nat) ({ cls := "TwoSeek$Reader", name := "isSmall", desc := "(I)Z" } : Jvm.MethodName)) ∈ lw_all := lw_g (lw_at lw_m3 84 rfl) rfl
theorem q680 : (Jvm.Cond.static ({ cls := "TwoSeek$Reader", name := "isSmall", desc := "(I)Z" } : Jvm.MethodName)) ∈ lw_all := lw_g (lw_at lw_m3 85 rfl) rfl
theorem q681 : (Jvm.Cond.code ({ cls := "TwoSeek$Reader", name := "isSmall", desc := "(I)Z" } : Jvm.MethodName) prog_7_method_4_code (1 : Nat) (Option.some Jvm.ClassFile.FieldType.boolean)) ∈ lw_all := lw_g (lw_at lw_m3 86 rfl) rfl
theorem q682 : (Jvm.Cond.methodLink "TwoSeek$Reader" (43 : Nat) ({ cls := "TwoSeek$Reader", name := "isDigit", desc := "(I)Z" } : Jvm.MethodName)) ∈ lw_all := lw_g (lw_at lw_m3 87 rfl) rfl
theorem q683 : (Jvm.Cond.static ({ cls := "TwoSeek$Reader", name := "isDigit", desc := "(I)Z" } : Jvm.MethodName)) ∈ lw_all := lw_g (lw_at lw_m3 88 rfl) rfl
theorem q684 : (Jvm.Cond.code ({ cls := "TwoSeek$Reader", name := "isDigit", desc := "(I)Z" } : Jvm.MethodName) prog_7_method_3_code (1 : Nat) (Option.some Jvm.ClassFile.FieldType.boolean)) ∈ lw_all := lw_g (lw_at lw_m3 89 rfl) rfl
theorem q685 : (Jvm.Cond.methodLink "TwoSeek$Reader" (46 : Nat) ({ cls := "java/lang/Math", name := "min", desc := "(II)I" } : Jvm.MethodName)) ∈ lw_all := lw_g (lw_at lw_m3 90 rfl) rfl
theorem q688 : (Jvm.Cond.methodLink "TwoSeek$Reader" (98 : Nat) ({ cls := "TwoSeek$Reader", name := "part", desc := "()V" } : Jvm.MethodName)) ∈ lw_all := lw_g (lw_at lw_m3 93 rfl) rfl
theorem q689 : (Jvm.Cond.privateMethod ({ cls := "TwoSeek$Reader", name := "part", desc := "()V" } : Jvm.MethodName)) ∈ lw_tbl := lw_at lw_m3 94 rfl
theorem q690 : (Jvm.Cond.instanceMethod ({ cls := "TwoSeek$Reader", name := "part", desc := "()V" } : Jvm.MethodName)) ∈ lw_all := lw_g (lw_at lw_m3 95 rfl) rfl
theorem q691 : (Jvm.Cond.code ({ cls := "TwoSeek$Reader", name := "part", desc := "()V" } : Jvm.MethodName) prog_7_method_13_code (2 : Nat) (Option.none : Option Jvm.ClassFile.FieldType)) ∈ lw_all := lw_g (lw_at lw_m3 96 rfl) rfl
theorem q692 : (Jvm.Cond.methodLink "TwoSeek$Reader" (78 : Nat) ({ cls := "TwoSeek$Reader", name := "key", desc := "()I" } : Jvm.MethodName)) ∈ lw_all := lw_g (lw_at lw_m3 97 rfl) rfl
theorem q693 : (Jvm.Cond.privateMethod ({ cls := "TwoSeek$Reader", name := "key", desc := "()I" } : Jvm.MethodName)) ∈ lw_tbl := lw_at lw_m3 98 rfl
theorem q694 : (Jvm.Cond.instanceMethod ({ cls := "TwoSeek$Reader", name := "key", desc := "()I" } : Jvm.MethodName)) ∈ lw_all := lw_g (lw_at lw_m3 99 rfl) rfl
theorem q695 : (Jvm.Cond.code ({ cls := "TwoSeek$Reader", name := "key", desc := "()I" } : Jvm.MethodName) prog_7_method_8_code (4 : Nat) (Option.some Jvm.ClassFile.FieldType.int)) ∈ lw_all := lw_g (lw_at lw_m3 100 rfl) rfl
theorem q696 : (Jvm.Cond.stringRef "TwoSeek$Reader" (62 : Nat) " place lane cross slow hears sees first second to ") ∈ lw_tbl := lw_at lw_m3 101 rfl
theorem q697 : (Jvm.Cond.methodLink "TwoSeek$Reader" (64 : Nat) ({ cls := "java/lang/String", name := "length", desc := "()I" } : Jvm.MethodName)) ∈ lw_all := lw_g (lw_at lw_m3 102 rfl) rfl
theorem q707 : (Jvm.Cond.methodLink "TwoSeek$Reader" (70 : Nat) ({ cls := "java/lang/String", name := "charAt", desc := "(I)C" } : Jvm.MethodName)) ∈ lw_all := lw_g (lw_at lw_m3 112 rfl) rfl
theorem q745 : (Jvm.Cond.methodLink "TwoSeek$Reader" (74 : Nat) ({ cls := "TwoSeek$Reader", name := "isWord", desc := "(II)Z" } : Jvm.MethodName)) ∈ lw_all := lw_g (lw_at lw_m3 150 rfl) rfl
theorem q746 : (Jvm.Cond.privateMethod ({ cls := "TwoSeek$Reader", name := "isWord", desc := "(II)Z" } : Jvm.MethodName)) ∈ lw_tbl := lw_at lw_m3 151 rfl
theorem q747 : (Jvm.Cond.instanceMethod ({ cls := "TwoSeek$Reader", name := "isWord", desc := "(II)Z" } : Jvm.MethodName)) ∈ lw_all := lw_g (lw_at lw_m3 152 rfl) rfl
theorem q748 : (Jvm.Cond.code ({ cls := "TwoSeek$Reader", name := "isWord", desc := "(II)Z" } : Jvm.MethodName) prog_7_method_9_code (4 : Nat) (Option.some Jvm.ClassFile.FieldType.boolean)) ∈ lw_all := lw_g (lw_at lw_m3 153 rfl) rfl
theorem q749 : (Jvm.Cond.methodLink "TwoSeek$Reader" (81 : Nat) ({ cls := "TwoSeek$Reader", name := "need", desc := "(Z)V" } : Jvm.MethodName)) ∈ lw_all := lw_g (lw_at lw_m3 154 rfl) rfl
theorem q750 : (Jvm.Cond.privateMethod ({ cls := "TwoSeek$Reader", name := "need", desc := "(Z)V" } : Jvm.MethodName)) ∈ lw_tbl := lw_at lw_m3 155 rfl
theorem q751 : (Jvm.Cond.instanceMethod ({ cls := "TwoSeek$Reader", name := "need", desc := "(Z)V" } : Jvm.MethodName)) ∈ lw_all := lw_g (lw_at lw_m3 156 rfl) rfl
theorem q752 : (Jvm.Cond.code ({ cls := "TwoSeek$Reader", name := "need", desc := "(Z)V" } : Jvm.MethodName) prog_7_method_7_code (2 : Nat) (Option.none : Option Jvm.ClassFile.FieldType)) ∈ lw_all := lw_g (lw_at lw_m3 157 rfl) rfl
theorem q753 : (Jvm.Cond.methodLink "TwoSeek$Reader" (58 : Nat) ({ cls := "TwoSeek$Reader", name := "fail", desc := "(I)LTwoSeek$Wrong;" } : Jvm.MethodName)) ∈ lw_all := lw_g (lw_at lw_m3 158 rfl) rfl
theorem q754 : (Jvm.Cond.privateMethod ({ cls := "TwoSeek$Reader", name := "fail", desc := "(I)LTwoSeek$Wrong;" } : Jvm.MethodName)) ∈ lw_tbl := lw_at lw_m3 159 rfl
theorem q755 : (Jvm.Cond.instanceMethod ({ cls := "TwoSeek$Reader", name := "fail", desc := "(I)LTwoSeek$Wrong;" } : Jvm.MethodName)) ∈ lw_all := lw_g (lw_at lw_m3 160 rfl) rfl
theorem q756 : (Jvm.Cond.code ({ cls := "TwoSeek$Reader", name := "fail", desc := "(I)LTwoSeek$Wrong;" } : Jvm.MethodName) prog_7_method_6_code (2 : Nat) (Option.some (Jvm.ClassFile.FieldType.object "TwoSeek$Wrong"))) ∈ lw_all := lw_g (lw_at lw_m3 161 rfl) rfl
theorem q757 : (Jvm.Cond.methodLink "TwoSeek$Reader" (52 : Nat) ({ cls := "TwoSeek$Wrong", name := "of", desc := "(II)LTwoSeek$Wrong;" } : Jvm.MethodName)) ∈ lw_all := lw_g (lw_at lw_m3 162 rfl) rfl
theorem q761 : (Jvm.Cond.methodLink "TwoSeek$Reader" (104 : Nat) ({ cls := "TwoSeek$Reader", name := "aPlace", desc := "()V" } : Jvm.MethodName)) ∈ lw_all := lw_g (lw_at lw_m3 166 rfl) rfl
theorem q762 : (Jvm.Cond.privateMethod ({ cls := "TwoSeek$Reader", name := "aPlace", desc := "()V" } : Jvm.MethodName)) ∈ lw_tbl := lw_at lw_m3 167 rfl
theorem q763 : (Jvm.Cond.instanceMethod ({ cls := "TwoSeek$Reader", name := "aPlace", desc := "()V" } : Jvm.MethodName)) ∈ lw_all := lw_g (lw_at lw_m3 168 rfl) rfl
theorem q764 : (Jvm.Cond.code ({ cls := "TwoSeek$Reader", name := "aPlace", desc := "()V" } : Jvm.MethodName) prog_7_method_14_code (7 : Nat) (Option.none : Option Jvm.ClassFile.FieldType)) ∈ lw_all := lw_g (lw_at lw_m3 169 rfl) rfl
theorem q765 : (Jvm.Cond.methodLink "TwoSeek$Reader" (123 : Nat) ({ cls := "TwoSeek$Reader", name := "name", desc := "()J" } : Jvm.MethodName)) ∈ lw_all := lw_g (lw_at lw_m3 170 rfl) rfl
theorem q766 : (Jvm.Cond.privateMethod ({ cls := "TwoSeek$Reader", name := "name", desc := "()J" } : Jvm.MethodName)) ∈ lw_tbl := lw_at lw_m3 171 rfl
theorem q767 : (Jvm.Cond.instanceMethod ({ cls := "TwoSeek$Reader", name := "name", desc := "()J" } : Jvm.MethodName)) ∈ lw_all := lw_g (lw_at lw_m3 172 rfl) rfl
theorem q768 : (Jvm.Cond.code ({ cls := "TwoSeek$Reader", name := "name", desc := "()J" } : Jvm.MethodName) prog_7_method_10_code (4 : Nat) (Option.some Jvm.ClassFile.FieldType.long)) ∈ lw_all := lw_g (lw_at lw_m3 173 rfl) rfl
theorem q769 : (Jvm.Cond.methodLink "TwoSeek$Reader" (127 : Nat) ({ cls := "TwoSeek$Town", name := "named", desc := "(J)LTwoSeek$Place;" } : Jvm.MethodName)) ∈ lw_all := lw_g (lw_at lw_m3 174 rfl) rfl
theorem q773 : (Jvm.Cond.classLink "TwoSeek$Reader" (134 : Nat) "TwoSeek$Place") ∈ lw_all := lw_g (lw_at lw_m3 178 rfl) rfl
theorem q775 : (Jvm.Cond.methodLink "TwoSeek$Reader" (136 : Nat) ({ cls := "TwoSeek$Place", name := "<init>", desc := "(JI)V" } : Jvm.MethodName)) ∈ lw_all := lw_g (lw_at lw_m3 180 rfl) rfl
theorem q786 : (Jvm.Cond.fieldLinkNest "TwoSeek$Reader" (143 : Nat) "TwoSeek$Place" "sight" "I" "TwoSeek") ∈ lw_tbl := lw_at lw_m3 191 rfl
theorem q789 : (Jvm.Cond.fieldLinkNest "TwoSeek$Reader" (146 : Nat) "TwoSeek$Place" "first" "I" "TwoSeek") ∈ lw_tbl := lw_at lw_m3 194 rfl
theorem q792 : (Jvm.Cond.fieldLinkNest "TwoSeek$Reader" (149 : Nat) "TwoSeek$Place" "second" "I" "TwoSeek") ∈ lw_tbl := lw_at lw_m3 197 rfl
theorem q796 : (Jvm.Cond.fieldLinkNest "TwoSeek$Reader" (152 : Nat) "TwoSeek$Place" "many" "I" "TwoSeek") ∈ lw_tbl := lw_at lw_m3 201 rfl
theorem q815 : (Jvm.Cond.methodLink "TwoSeek$Reader" (114 : Nat) ({ cls := "TwoSeek$Reader", name := "passed", desc := "(II)I" } : Jvm.MethodName)) ∈ lw_all := lw_g (lw_at lw_m3 220 rfl) rfl
theorem q816 : (Jvm.Cond.privateMethod ({ cls := "TwoSeek$Reader", name := "passed", desc := "(II)I" } : Jvm.MethodName)) ∈ lw_tbl := lw_at lw_m3 221 rfl
theorem q817 : (Jvm.Cond.instanceMethod ({ cls := "TwoSeek$Reader", name := "passed", desc := "(II)I" } : Jvm.MethodName)) ∈ lw_all := lw_g (lw_at lw_m3 222 rfl) rfl
theorem q818 : (Jvm.Cond.code ({ cls := "TwoSeek$Reader", name := "passed", desc := "(II)I" } : Jvm.MethodName) prog_7_method_11_code (4 : Nat) (Option.some Jvm.ClassFile.FieldType.int)) ∈ lw_all := lw_g (lw_at lw_m3 223 rfl) rfl
theorem q819 : (Jvm.Cond.methodLink "TwoSeek$Reader" (107 : Nat) ({ cls := "TwoSeek$Reader", name := "aLane", desc := "()V" } : Jvm.MethodName)) ∈ lw_all := lw_g (lw_at lw_m3 224 rfl) rfl
theorem q820 : (Jvm.Cond.privateMethod ({ cls := "TwoSeek$Reader", name := "aLane", desc := "()V" } : Jvm.MethodName)) ∈ lw_tbl := lw_at lw_m3 225 rfl
theorem q821 : (Jvm.Cond.instanceMethod ({ cls := "TwoSeek$Reader", name := "aLane", desc := "()V" } : Jvm.MethodName)) ∈ lw_all := lw_g (lw_at lw_m3 226 rfl) rfl
theorem q822 : (Jvm.Cond.code ({ cls := "TwoSeek$Reader", name := "aLane", desc := "()V" } : Jvm.MethodName) prog_7_method_16_code (4 : Nat) (Option.none : Option Jvm.ClassFile.FieldType)) ∈ lw_all := lw_g (lw_at lw_m3 227 rfl) rfl
theorem q823 : (Jvm.Cond.methodLink "TwoSeek$Reader" (157 : Nat) ({ cls := "TwoSeek$Reader", name := "free", desc := "(LTwoSeek$Place;)LTwoSeek$Place;" } : Jvm.MethodName)) ∈ lw_all := lw_g (lw_at lw_m3 228 rfl) rfl
theorem q824 : (Jvm.Cond.privateMethod ({ cls := "TwoSeek$Reader", name := "free", desc := "(LTwoSeek$Place;)LTwoSeek$Place;" } : Jvm.MethodName)) ∈ lw_tbl := lw_at lw_m3 229 rfl
theorem q825 : (Jvm.Cond.instanceMethod ({ cls := "TwoSeek$Reader", name := "free", desc := "(LTwoSeek$Place;)LTwoSeek$Place;" } : Jvm.MethodName)) ∈ lw_all := lw_g (lw_at lw_m3 230 rfl) rfl
theorem q826 : (Jvm.Cond.code ({ cls := "TwoSeek$Reader", name := "free", desc := "(LTwoSeek$Place;)LTwoSeek$Place;" } : Jvm.MethodName) prog_7_method_15_code (3 : Nat) (Option.some (Jvm.ClassFile.FieldType.object "TwoSeek$Place"))) ∈ lw_all := lw_g (lw_at lw_m3 231 rfl) rfl
theorem q827 : (Jvm.Cond.methodLink "TwoSeek$Reader" (153 : Nat) ({ cls := "TwoSeek$Place", name := "leads", desc := "(LTwoSeek$Place;)Z" } : Jvm.MethodName)) ∈ lw_all := lw_g (lw_at lw_m3 232 rfl) rfl
theorem q835 : (Jvm.Cond.classLink "TwoSeek$Reader" (161 : Nat) "TwoSeek$Lane") ∈ lw_all := lw_g (lw_at lw_m4 0 rfl) rfl
theorem q837 : (Jvm.Cond.methodLink "TwoSeek$Reader" (163 : Nat) ({ cls := "TwoSeek$Lane", name := "<init>", desc := "(LTwoSeek$Place;LTwoSeek$Place;)V" } : Jvm.MethodName)) ∈ lw_all := lw_g (lw_at lw_m4 2 rfl) rfl
theorem q852 : (Jvm.Cond.methodLink "TwoSeek$Reader" (166 : Nat) ({ cls := "TwoSeek$Place", name := "add", desc := "(LTwoSeek$Lane;)V" } : Jvm.MethodName)) ∈ lw_all := lw_g (lw_at lw_m4 17 rfl) rfl
theorem in_X2 : ∀ w ∈ wsX20, w ∈ lw_all := lw_in wsX20 [257, 259, 261, 263, 265, 267, 269, 271, 273, 275] (by decide +kernel) (by decide +kernel)

/-! TwoSeek$Walker -/
set_option maxRecDepth 100000
def RX3 : String := "TwoSeek$Walker"
def TX3 : u_T := fun k => match k with
  | 0 => ("TwoSeek$Walker", "way", "LTwoSeek$Way;", false)
  | 1 => ("TwoSeek$Walker", "place", "LTwoSeek$Place;", false)
  | 2 => ("TwoSeek$Walker", "done", "I", false)
  | _ => ("TwoSeek$Walker", "mood", "I", false)
def tyX3 : Nat → FieldType := fun k => match k with
  | 0 => .object "TwoSeek$Way"
  | 1 => .object "TwoSeek$Place"
  | 2 => .int
  | _ => .int
abbrev wsX30 : List Cond := u_ws RX3 TX3 4
theorem nmX3 : ∀ a, a < 4 → ∀ b, b < 4 → a ≠ b → (TX3 a).2.1 ≠ (TX3 b).2.1 := by decide +kernel
theorem tyX3_ok : ∀ k, k < 4 → parseFieldDescriptor (TX3 k).2.2.1 = some (tyX3 k) := by decide +kernel
abbrev cX3_init : ByteArray := prog_11_method_1_code
def yX3_init : MethodName := ⟨RX3, "<init>", "()V"⟩
theorem dX3_init_0 : decode cX3_init 0 = .ok (.aload_n 0, 1) := by decide +kernel
theorem dX3_init_1 : decode cX3_init 1 = .ok (.invokespecial 1, 3) := by decide +kernel
theorem dX3_init_4 : decode cX3_init 4 = .ok (.return_, 1) := by decide +kernel
abbrev cX3_begin : ByteArray := prog_11_method_2_code
def yX3_begin : MethodName := ⟨RX3, "begin", "(LTwoSeek$Way;LTwoSeek$Place;)V"⟩
def dkwX3_begin_0 : List UInt8 := [42, 43, 181, 0, 7, 42, 44, 181, 0, 13, 42, 3, 181, 0, 17, 42, 3, 181, 0, 21, 177]
abbrev dktX3_begin_0 : List UInt8 := dkwX3_begin_0 ++ []
theorem dksX3_begin_0 : cX3_begin.data.toList.drop 0 = dktX3_begin_0 := by decide +kernel
theorem dX3_begin_0 : decode cX3_begin 0 = .ok (.aload_n 0, 1) := dk_42 (dk_at dksX3_begin_0 0 rfl rfl)
theorem dX3_begin_1 : decode cX3_begin 1 = .ok (.aload_n 1, 1) := dk_43 (dk_at dksX3_begin_0 1 rfl rfl)
theorem dX3_begin_2 : decode cX3_begin 2 = .ok (.putfield 7, 3) := dk_181 0 7 (dk_at dksX3_begin_0 2 rfl rfl)
theorem dX3_begin_5 : decode cX3_begin 5 = .ok (.aload_n 0, 1) := dk_42 (dk_at dksX3_begin_0 5 rfl rfl)
theorem dX3_begin_6 : decode cX3_begin 6 = .ok (.aload_n 2, 1) := dk_44 (dk_at dksX3_begin_0 6 rfl rfl)
theorem dX3_begin_7 : decode cX3_begin 7 = .ok (.putfield 13, 3) := dk_181 0 13 (dk_at dksX3_begin_0 7 rfl rfl)
theorem dX3_begin_10 : decode cX3_begin 10 = .ok (.aload_n 0, 1) := dk_42 (dk_at dksX3_begin_0 10 rfl rfl)
theorem dX3_begin_11 : decode cX3_begin 11 = .ok (.iconst 0, 1) := dk_3 (dk_at dksX3_begin_0 11 rfl rfl)
theorem dX3_begin_12 : decode cX3_begin 12 = .ok (.putfield 17, 3) := dk_181 0 17 (dk_at dksX3_begin_0 12 rfl rfl)
theorem dX3_begin_15 : decode cX3_begin 15 = .ok (.aload_n 0, 1) := dk_42 (dk_at dksX3_begin_0 15 rfl rfl)
theorem dX3_begin_16 : decode cX3_begin 16 = .ok (.iconst 0, 1) := dk_3 (dk_at dksX3_begin_0 16 rfl rfl)
theorem dX3_begin_17 : decode cX3_begin 17 = .ok (.putfield 21, 3) := dk_181 0 21 (dk_at dksX3_begin_0 17 rfl rfl)
theorem dX3_begin_20 : decode cX3_begin 20 = .ok (.return_, 1) := dk_177 (dk_at dksX3_begin_0 20 rfl rfl)
abbrev cX3_next : ByteArray := prog_11_method_3_code
def yX3_next : MethodName := ⟨RX3, "next", "()LTwoSeek$Place;"⟩
def dkwX3_next_1 : List UInt8 := [43, 176]
abbrev dktX3_next_1 : List UInt8 := dkwX3_next_1 ++ []
def dkwX3_next_0 : List UInt8 := [42, 180, 0, 13, 42, 180, 0, 7, 42, 182, 0, 24, 182, 0, 30, 76, 42, 180, 0, 7, 42, 182, 0, 36]
abbrev dktX3_next_0 : List UInt8 := dkwX3_next_0 ++ dktX3_next_1
theorem dksX3_next_0 : cX3_next.data.toList.drop 0 = dktX3_next_0 := by decide +kernel
theorem dksX3_next_1 : cX3_next.data.toList.drop 24 = dktX3_next_1 := dk_seg dksX3_next_0 24 rfl rfl
theorem dX3_next_0 : decode cX3_next 0 = .ok (.aload_n 0, 1) := dk_42 (dk_at dksX3_next_0 0 rfl rfl)
theorem dX3_next_1 : decode cX3_next 1 = .ok (.getfield 13, 3) := dk_180 0 13 (dk_at dksX3_next_0 1 rfl rfl)
theorem dX3_next_4 : decode cX3_next 4 = .ok (.aload_n 0, 1) := dk_42 (dk_at dksX3_next_0 4 rfl rfl)
theorem dX3_next_5 : decode cX3_next 5 = .ok (.getfield 7, 3) := dk_180 0 7 (dk_at dksX3_next_0 5 rfl rfl)
theorem dX3_next_8 : decode cX3_next 8 = .ok (.aload_n 0, 1) := dk_42 (dk_at dksX3_next_0 8 rfl rfl)
theorem dX3_next_9 : decode cX3_next 9 = .ok (.invokevirtual 24, 3) := dk_182 0 24 (dk_at dksX3_next_0 9 rfl rfl)
theorem dX3_next_12 : decode cX3_next 12 = .ok (.invokevirtual 30, 3) := dk_182 0 30 (dk_at dksX3_next_0 12 rfl rfl)
theorem dX3_next_15 : decode cX3_next 15 = .ok (.astore_n 1, 1) := dk_76 (dk_at dksX3_next_0 15 rfl rfl)
theorem dX3_next_16 : decode cX3_next 16 = .ok (.aload_n 0, 1) := dk_42 (dk_at dksX3_next_0 16 rfl rfl)
theorem dX3_next_17 : decode cX3_next 17 = .ok (.getfield 7, 3) := dk_180 0 7 (dk_at dksX3_next_0 17 rfl rfl)
theorem dX3_next_20 : decode cX3_next 20 = .ok (.aload_n 0, 1) := dk_42 (dk_at dksX3_next_0 20 rfl rfl)
theorem dX3_next_21 : decode cX3_next 21 = .ok (.invokevirtual 36, 3) := dk_182 0 36 (dk_at dksX3_next_0 21 rfl rfl)
theorem dX3_next_24 : decode cX3_next 24 = .ok (.aload_n 1, 1) := dk_43 (dk_at dksX3_next_1 0 rfl rfl)
theorem dX3_next_25 : decode cX3_next 25 = .ok (.areturn, 1) := dk_176 (dk_at dksX3_next_1 1 rfl rfl)
theorem q122 : (Jvm.Cond.initialized "TwoSeek$Walker") ∈ lw_all := lw_g (lw_at lw_m1 7 rfl) rfl
theorem q282 : (Jvm.Cond.instantiable "TwoSeek$Walker" (4 : Nat)) ∈ lw_all := lw_g (lw_at lw_m1 167 rfl) rfl
theorem q284 : (Jvm.Cond.instanceMethod ({ cls := "TwoSeek$Walker", name := "<init>", desc := "()V" } : Jvm.MethodName)) ∈ lw_all := lw_g (lw_at lw_m1 169 rfl) rfl
theorem q285 : (Jvm.Cond.code ({ cls := "TwoSeek$Walker", name := "<init>", desc := "()V" } : Jvm.MethodName) prog_11_method_1_code (1 : Nat) (Option.none : Option Jvm.ClassFile.FieldType)) ∈ lw_all := lw_g (lw_at lw_m1 170 rfl) rfl
theorem q286 : (Jvm.Cond.methodLink "TwoSeek$Walker" (1 : Nat) ({ cls := "java/lang/Object", name := "<init>", desc := "()V" } : Jvm.MethodName)) ∈ lw_all := lw_g (lw_at lw_m1 171 rfl) rfl
theorem q287 : (Jvm.Cond.fieldLink "TwoSeek$Walker" (7 : Nat) "TwoSeek$Walker" "way" "LTwoSeek$Way;") ∈ lw_all := lw_g (lw_at lw_m1 172 rfl) rfl
theorem q289 : (Jvm.Cond.fieldLink "TwoSeek$Walker" (13 : Nat) "TwoSeek$Walker" "place" "LTwoSeek$Place;") ∈ lw_all := lw_g (lw_at lw_m1 174 rfl) rfl
theorem q295 : (Jvm.Cond.fieldLink "TwoSeek$Walker" (17 : Nat) "TwoSeek$Walker" "done" "I") ∈ lw_all := lw_g (lw_at lw_m1 180 rfl) rfl
theorem q297 : (Jvm.Cond.fieldLink "TwoSeek$Walker" (21 : Nat) "TwoSeek$Walker" "mood" "I") ∈ lw_all := lw_g (lw_at lw_m1 182 rfl) rfl
theorem q298 : (Jvm.Cond.lays "TwoSeek$Walker" "TwoSeek$Walker" "way" "LTwoSeek$Way;") ∈ lw_all := lw_g (lw_at lw_m1 183 rfl) rfl
theorem q299 : (Jvm.Cond.soleField "TwoSeek$Walker" "way") ∈ lw_all := lw_g (lw_at lw_m1 184 rfl) rfl
theorem q300 : (Jvm.Cond.lays "TwoSeek$Walker" "TwoSeek$Walker" "place" "LTwoSeek$Place;") ∈ lw_all := lw_g (lw_at lw_m1 185 rfl) rfl
theorem q301 : (Jvm.Cond.soleField "TwoSeek$Walker" "place") ∈ lw_all := lw_g (lw_at lw_m1 186 rfl) rfl
theorem q302 : (Jvm.Cond.lays "TwoSeek$Walker" "TwoSeek$Walker" "done" "I") ∈ lw_all := lw_g (lw_at lw_m1 187 rfl) rfl
theorem q303 : (Jvm.Cond.soleField "TwoSeek$Walker" "done") ∈ lw_all := lw_g (lw_at lw_m1 188 rfl) rfl
theorem q304 : (Jvm.Cond.lays "TwoSeek$Walker" "TwoSeek$Walker" "mood" "I") ∈ lw_all := lw_g (lw_at lw_m1 189 rfl) rfl
theorem q305 : (Jvm.Cond.soleField "TwoSeek$Walker" "mood") ∈ lw_all := lw_g (lw_at lw_m1 190 rfl) rfl
theorem q306 : (Jvm.Cond.superclass "TwoSeek$Walker" "java/lang/Object") ∈ lw_all := lw_g (lw_at lw_m1 191 rfl) rfl
theorem q978 : (Jvm.Cond.instanceMethod ({ cls := "TwoSeek$Walker", name := "begin", desc := "(LTwoSeek$Way;LTwoSeek$Place;)V" } : Jvm.MethodName)) ∈ lw_all := lw_g (lw_at lw_m4 143 rfl) rfl
theorem q979 : (Jvm.Cond.selects "TwoSeek$Walker" ({ cls := "TwoSeek$Walker", name := "begin", desc := "(LTwoSeek$Way;LTwoSeek$Place;)V" } : Jvm.MethodName) ({ cls := "TwoSeek$Walker", name := "begin", desc := "(LTwoSeek$Way;LTwoSeek$Place;)V" } : Jvm.MethodName)) ∈ lw_all := lw_g (lw_at lw_m4 144 rfl) rfl
theorem q980 : (Jvm.Cond.code ({ cls := "TwoSeek$Walker", name := "begin", desc := "(LTwoSeek$Way;LTwoSeek$Place;)V" } : Jvm.MethodName) prog_11_method_2_code (3 : Nat) (Option.none : Option Jvm.ClassFile.FieldType)) ∈ lw_all := lw_g (lw_at lw_m4 145 rfl) rfl
theorem q1000 : (Jvm.Cond.instanceMethod ({ cls := "TwoSeek$Walker", name := "next", desc := "()LTwoSeek$Place;" } : Jvm.MethodName)) ∈ lw_all := lw_g (lw_at lw_m4 165 rfl) rfl
theorem q1001 : (Jvm.Cond.selects "TwoSeek$Walker" ({ cls := "TwoSeek$Walker", name := "next", desc := "()LTwoSeek$Place;" } : Jvm.MethodName) ({ cls := "TwoSeek$Walker", name := "next", desc := "()LTwoSeek$Place;" } : Jvm.MethodName)) ∈ lw_all := lw_g (lw_at lw_m4 166 rfl) rfl
theorem q1002 : (Jvm.Cond.code ({ cls := "TwoSeek$Walker", name := "next", desc := "()LTwoSeek$Place;" } : Jvm.MethodName) prog_11_method_3_code (2 : Nat) (Option.some (Jvm.ClassFile.FieldType.object "TwoSeek$Place"))) ∈ lw_all := lw_g (lw_at lw_m4 167 rfl) rfl
theorem q1003 : (Jvm.Cond.methodLink "TwoSeek$Walker" (30 : Nat) ({ cls := "TwoSeek$Place", name := "by", desc := "(I)LTwoSeek$Place;" } : Jvm.MethodName)) ∈ lw_all := lw_g (lw_at lw_m4 168 rfl) rfl
theorem q1004 : (Jvm.Cond.methodLink "TwoSeek$Walker" (36 : Nat) ({ cls := "TwoSeek$Way", name := "goesOn", desc := "(LTwoSeek$Walker;)V" } : Jvm.MethodName)) ∈ lw_all := lw_g (lw_at lw_m4 169 rfl) rfl
theorem in_X3 : ∀ w ∈ wsX30, w ∈ lw_all := lw_in wsX30 [298, 300, 302, 304] (by decide +kernel) (by decide +kernel)

/-! TwoSeek$Town -/
set_option maxRecDepth 100000
def RX4 : String := "TwoSeek$Town"
def TX4 : u_T := fun k => match k with
  | 0 => ("TwoSeek$Town", "places", "[LTwoSeek$Place;", true)
  | 1 => ("TwoSeek$Town", "lanes", "[LTwoSeek$Lane;", true)
  | 2 => ("TwoSeek$Town", "many", "I", false)
  | 3 => ("TwoSeek$Town", "laneMany", "I", false)
  | 4 => ("TwoSeek$Town", "slow", "I", false)
  | 5 => ("TwoSeek$Town", "hears", "I", false)
  | 6 => ("TwoSeek$Town", "crosses", "Z", false)
  | _ => ("TwoSeek$Town", "far", "[I", true)
def tyX4 : Nat → FieldType := fun k => match k with
  | 0 => .array (.object "TwoSeek$Place")
  | 1 => .array (.object "TwoSeek$Lane")
  | 2 => .int
  | 3 => .int
  | 4 => .int
  | 5 => .int
  | 6 => .boolean
  | _ => .array .int
abbrev wsX40 : List Cond := u_ws RX4 TX4 8
theorem nmX4 : ∀ a, a < 8 → ∀ b, b < 8 → a ≠ b → (TX4 a).2.1 ≠ (TX4 b).2.1 := by decide +kernel
theorem tyX4_ok : ∀ k, k < 8 → parseFieldDescriptor (TX4 k).2.2.1 = some (tyX4 k) := by decide +kernel
abbrev cX4_init : ByteArray := prog_9_method_1_code
def yX4_init : MethodName := ⟨RX4, "<init>", "()V"⟩
def dkwX4_init_1 : List UInt8 := [181, 0, 23, 42, 16, 8, 188, 10, 181, 0, 27, 177]
abbrev dktX4_init_1 : List UInt8 := dkwX4_init_1 ++ []
def dkwX4_init_0 : List UInt8 := [42, 183, 0, 3, 42, 16, 8, 189, 0, 9, 181, 0, 11, 42, 16, 12, 189, 0, 17, 181, 0, 19, 42, 4]
abbrev dktX4_init_0 : List UInt8 := dkwX4_init_0 ++ dktX4_init_1
theorem dksX4_init_0 : cX4_init.data.toList.drop 0 = dktX4_init_0 := by decide +kernel
theorem dksX4_init_1 : cX4_init.data.toList.drop 24 = dktX4_init_1 := dk_seg dksX4_init_0 24 rfl rfl
theorem dX4_init_0 : decode cX4_init 0 = .ok (.aload_n 0, 1) := dk_42 (dk_at dksX4_init_0 0 rfl rfl)
theorem dX4_init_1 : decode cX4_init 1 = .ok (.invokespecial 3, 3) := dk_183 0 3 (dk_at dksX4_init_0 1 rfl rfl)
theorem dX4_init_4 : decode cX4_init 4 = .ok (.aload_n 0, 1) := dk_42 (dk_at dksX4_init_0 4 rfl rfl)
theorem dX4_init_5 : decode cX4_init 5 = .ok (.bipush 8, 2) := dk_16 8 (dk_at dksX4_init_0 5 rfl rfl)
theorem dX4_init_7 : decode cX4_init 7 = .ok (.anewarray 9, 3) := dk_189 0 9 (dk_at dksX4_init_0 7 rfl rfl)
theorem dX4_init_10 : decode cX4_init 10 = .ok (.putfield 11, 3) := dk_181 0 11 (dk_at dksX4_init_0 10 rfl rfl)
theorem dX4_init_13 : decode cX4_init 13 = .ok (.aload_n 0, 1) := dk_42 (dk_at dksX4_init_0 13 rfl rfl)
theorem dX4_init_14 : decode cX4_init 14 = .ok (.bipush 12, 2) := dk_16 12 (dk_at dksX4_init_0 14 rfl rfl)
theorem dX4_init_16 : decode cX4_init 16 = .ok (.anewarray 17, 3) := dk_189 0 17 (dk_at dksX4_init_0 16 rfl rfl)
theorem dX4_init_19 : decode cX4_init 19 = .ok (.putfield 19, 3) := dk_181 0 19 (dk_at dksX4_init_0 19 rfl rfl)
theorem dX4_init_22 : decode cX4_init 22 = .ok (.aload_n 0, 1) := dk_42 (dk_at dksX4_init_0 22 rfl rfl)
theorem dX4_init_23 : decode cX4_init 23 = .ok (.iconst 1, 1) := dk_4 (dk_at dksX4_init_0 23 rfl rfl)
theorem dX4_init_24 : decode cX4_init 24 = .ok (.putfield 23, 3) := dk_181 0 23 (dk_at dksX4_init_1 0 rfl rfl)
theorem dX4_init_27 : decode cX4_init 27 = .ok (.aload_n 0, 1) := dk_42 (dk_at dksX4_init_1 3 rfl rfl)
theorem dX4_init_28 : decode cX4_init 28 = .ok (.bipush 8, 2) := dk_16 8 (dk_at dksX4_init_1 4 rfl rfl)
theorem dX4_init_30 : decode cX4_init 30 = .ok (.newarray .int, 2) := dk_188_10 (dk_at dksX4_init_1 6 rfl rfl)
theorem dX4_init_32 : decode cX4_init 32 = .ok (.putfield 27, 3) := dk_181 0 27 (dk_at dksX4_init_1 8 rfl rfl)
theorem dX4_init_35 : decode cX4_init 35 = .ok (.return_, 1) := dk_177 (dk_at dksX4_init_1 11 rfl rfl)
abbrev cX4_named : ByteArray := prog_9_method_2_code
def yX4_named : MethodName := ⟨RX4, "named", "(J)LTwoSeek$Place;"⟩
def dkwX4_named_1 : List UInt8 := [42, 180, 0, 11, 29, 50, 176, 132, 3, 1, 167, 255, 224, 1, 176]
abbrev dktX4_named_1 : List UInt8 := dkwX4_named_1 ++ []
def dkwX4_named_0 : List UInt8 := [3, 62, 29, 42, 180, 0, 31, 162, 0, 30, 42, 180, 0, 11, 29, 50, 180, 0, 34, 31, 148, 154, 0, 10]
abbrev dktX4_named_0 : List UInt8 := dkwX4_named_0 ++ dktX4_named_1
theorem dksX4_named_0 : cX4_named.data.toList.drop 0 = dktX4_named_0 := by decide +kernel
theorem dksX4_named_1 : cX4_named.data.toList.drop 24 = dktX4_named_1 := dk_seg dksX4_named_0 24 rfl rfl
theorem dX4_named_0 : decode cX4_named 0 = .ok (.iconst 0, 1) := dk_3 (dk_at dksX4_named_0 0 rfl rfl)
theorem dX4_named_1 : decode cX4_named 1 = .ok (.istore_n 3, 1) := dk_62 (dk_at dksX4_named_0 1 rfl rfl)
theorem dX4_named_2 : decode cX4_named 2 = .ok (.iload_n 3, 1) := dk_29 (dk_at dksX4_named_0 2 rfl rfl)
theorem dX4_named_3 : decode cX4_named 3 = .ok (.aload_n 0, 1) := dk_42 (dk_at dksX4_named_0 3 rfl rfl)
theorem dX4_named_4 : decode cX4_named 4 = .ok (.getfield 31, 3) := dk_180 0 31 (dk_at dksX4_named_0 4 rfl rfl)
theorem dX4_named_7 : decode cX4_named 7 = .ok (.if_icmp .ge 30, 3) := dk_162 0 30 (dk_at dksX4_named_0 7 rfl rfl)
theorem dX4_named_10 : decode cX4_named 10 = .ok (.aload_n 0, 1) := dk_42 (dk_at dksX4_named_0 10 rfl rfl)
theorem dX4_named_11 : decode cX4_named 11 = .ok (.getfield 11, 3) := dk_180 0 11 (dk_at dksX4_named_0 11 rfl rfl)
theorem dX4_named_14 : decode cX4_named 14 = .ok (.iload_n 3, 1) := dk_29 (dk_at dksX4_named_0 14 rfl rfl)
theorem dX4_named_15 : decode cX4_named 15 = .ok (.aaload, 1) := dk_50 (dk_at dksX4_named_0 15 rfl rfl)
theorem dX4_named_16 : decode cX4_named 16 = .ok (.getfield 34, 3) := dk_180 0 34 (dk_at dksX4_named_0 16 rfl rfl)
theorem dX4_named_19 : decode cX4_named 19 = .ok (.lload_n 1, 1) := dk_31 (dk_at dksX4_named_0 19 rfl rfl)
theorem dX4_named_20 : decode cX4_named 20 = .ok (.lcmp, 1) := dk_148 (dk_at dksX4_named_0 20 rfl rfl)
theorem dX4_named_21 : decode cX4_named 21 = .ok (.ifCond .ne 10, 3) := dk_154 0 10 (dk_at dksX4_named_0 21 rfl rfl)
theorem dX4_named_24 : decode cX4_named 24 = .ok (.aload_n 0, 1) := dk_42 (dk_at dksX4_named_1 0 rfl rfl)
theorem dX4_named_25 : decode cX4_named 25 = .ok (.getfield 11, 3) := dk_180 0 11 (dk_at dksX4_named_1 1 rfl rfl)
theorem dX4_named_28 : decode cX4_named 28 = .ok (.iload_n 3, 1) := dk_29 (dk_at dksX4_named_1 4 rfl rfl)
theorem dX4_named_29 : decode cX4_named 29 = .ok (.aaload, 1) := dk_50 (dk_at dksX4_named_1 5 rfl rfl)
theorem dX4_named_30 : decode cX4_named 30 = .ok (.areturn, 1) := dk_176 (dk_at dksX4_named_1 6 rfl rfl)
theorem dX4_named_31 : decode cX4_named 31 = .ok (.iinc 3 1, 3) := dk_132 3 1 (dk_at dksX4_named_1 7 rfl rfl)
theorem dX4_named_34 : decode cX4_named 34 = .ok (.goto (-32), 3) := dk_167 255 224 (dk_at dksX4_named_1 10 rfl rfl)
theorem dX4_named_37 : decode cX4_named 37 = .ok (.aconst_null, 1) := dk_1 (dk_at dksX4_named_1 13 rfl rfl)
theorem dX4_named_38 : decode cX4_named 38 = .ok (.areturn, 1) := dk_176 (dk_at dksX4_named_1 14 rfl rfl)
abbrev cX4_spread : ByteArray := prog_9_method_3_code
def yX4_spread : MethodName := ⟨RX4, "spread", "(LTwoSeek$Place;)V"⟩
def dkwX4_spread_5 : List UInt8 := [132, 4, 1, 167, 255, 192, 132, 3, 1, 167, 255, 175, 132, 2, 1, 167, 255, 159, 177]
abbrev dktX4_spread_5 : List UInt8 := dkwX4_spread_5 ++ []
def dkwX4_spread_4 : List UInt8 := [54, 5, 42, 180, 0, 27, 21, 5, 46, 2, 160, 0, 13, 42, 180, 0, 27, 21, 5, 28, 4, 96, 79]
abbrev dktX4_spread_4 : List UInt8 := dkwX4_spread_4 ++ dktX4_spread_5
def dkwX4_spread_3 : List UInt8 := [42, 180, 0, 27, 29, 46, 28, 160, 0, 46, 42, 180, 0, 11, 29, 50, 21, 4, 182, 0, 42, 180, 0, 38]
abbrev dktX4_spread_3 : List UInt8 := dkwX4_spread_3 ++ dktX4_spread_4
def dkwX4_spread_2 : List UInt8 := [42, 180, 0, 31, 162, 0, 79, 4, 54, 4, 21, 4, 42, 180, 0, 11, 29, 50, 180, 0, 41, 163, 0, 56]
abbrev dktX4_spread_2 : List UInt8 := dkwX4_spread_2 ++ dktX4_spread_3
def dkwX4_spread_1 : List UInt8 := [167, 0, 4, 2, 79, 132, 2, 1, 167, 255, 228, 3, 61, 28, 42, 180, 0, 31, 162, 0, 95, 3, 62, 29]
abbrev dktX4_spread_1 : List UInt8 := dkwX4_spread_1 ++ dktX4_spread_2
def dkwX4_spread_0 : List UInt8 := [3, 61, 28, 16, 8, 162, 0, 28, 42, 180, 0, 27, 28, 28, 43, 180, 0, 38, 160, 0, 7, 3]
abbrev dktX4_spread_0 : List UInt8 := dkwX4_spread_0 ++ dktX4_spread_1
theorem dksX4_spread_0 : cX4_spread.data.toList.drop 0 = dktX4_spread_0 := by decide +kernel
theorem dksX4_spread_1 : cX4_spread.data.toList.drop 22 = dktX4_spread_1 := dk_seg dksX4_spread_0 22 rfl rfl
theorem dksX4_spread_2 : cX4_spread.data.toList.drop 46 = dktX4_spread_2 := dk_seg dksX4_spread_1 24 rfl rfl
theorem dksX4_spread_3 : cX4_spread.data.toList.drop 70 = dktX4_spread_3 := dk_seg dksX4_spread_2 24 rfl rfl
theorem dksX4_spread_4 : cX4_spread.data.toList.drop 94 = dktX4_spread_4 := dk_seg dksX4_spread_3 24 rfl rfl
theorem dksX4_spread_5 : cX4_spread.data.toList.drop 117 = dktX4_spread_5 := dk_seg dksX4_spread_4 23 rfl rfl
theorem dX4_spread_0 : decode cX4_spread 0 = .ok (.iconst 0, 1) := dk_3 (dk_at dksX4_spread_0 0 rfl rfl)
theorem dX4_spread_1 : decode cX4_spread 1 = .ok (.istore_n 2, 1) := dk_61 (dk_at dksX4_spread_0 1 rfl rfl)
theorem dX4_spread_2 : decode cX4_spread 2 = .ok (.iload_n 2, 1) := dk_28 (dk_at dksX4_spread_0 2 rfl rfl)
theorem dX4_spread_3 : decode cX4_spread 3 = .ok (.bipush 8, 2) := dk_16 8 (dk_at dksX4_spread_0 3 rfl rfl)
theorem dX4_spread_5 : decode cX4_spread 5 = .ok (.if_icmp .ge 28, 3) := dk_162 0 28 (dk_at dksX4_spread_0 5 rfl rfl)
theorem dX4_spread_8 : decode cX4_spread 8 = .ok (.aload_n 0, 1) := dk_42 (dk_at dksX4_spread_0 8 rfl rfl)
theorem dX4_spread_9 : decode cX4_spread 9 = .ok (.getfield 27, 3) := dk_180 0 27 (dk_at dksX4_spread_0 9 rfl rfl)
theorem dX4_spread_12 : decode cX4_spread 12 = .ok (.iload_n 2, 1) := dk_28 (dk_at dksX4_spread_0 12 rfl rfl)
theorem dX4_spread_13 : decode cX4_spread 13 = .ok (.iload_n 2, 1) := dk_28 (dk_at dksX4_spread_0 13 rfl rfl)
theorem dX4_spread_14 : decode cX4_spread 14 = .ok (.aload_n 1, 1) := dk_43 (dk_at dksX4_spread_0 14 rfl rfl)
theorem dX4_spread_15 : decode cX4_spread 15 = .ok (.getfield 38, 3) := dk_180 0 38 (dk_at dksX4_spread_0 15 rfl rfl)
theorem dX4_spread_18 : decode cX4_spread 18 = .ok (.if_icmp .ne 7, 3) := dk_160 0 7 (dk_at dksX4_spread_0 18 rfl rfl)
theorem dX4_spread_21 : decode cX4_spread 21 = .ok (.iconst 0, 1) := dk_3 (dk_at dksX4_spread_0 21 rfl rfl)
theorem dX4_spread_22 : decode cX4_spread 22 = .ok (.goto 4, 3) := dk_167 0 4 (dk_at dksX4_spread_1 0 rfl rfl)
theorem dX4_spread_25 : decode cX4_spread 25 = .ok (.iconst (-1), 1) := dk_2 (dk_at dksX4_spread_1 3 rfl rfl)
theorem dX4_spread_26 : decode cX4_spread 26 = .ok (.iastore, 1) := dk_79 (dk_at dksX4_spread_1 4 rfl rfl)
theorem dX4_spread_27 : decode cX4_spread 27 = .ok (.iinc 2 1, 3) := dk_132 2 1 (dk_at dksX4_spread_1 5 rfl rfl)
theorem dX4_spread_30 : decode cX4_spread 30 = .ok (.goto (-28), 3) := dk_167 255 228 (dk_at dksX4_spread_1 8 rfl rfl)
theorem dX4_spread_33 : decode cX4_spread 33 = .ok (.iconst 0, 1) := dk_3 (dk_at dksX4_spread_1 11 rfl rfl)
theorem dX4_spread_34 : decode cX4_spread 34 = .ok (.istore_n 2, 1) := dk_61 (dk_at dksX4_spread_1 12 rfl rfl)
theorem dX4_spread_35 : decode cX4_spread 35 = .ok (.iload_n 2, 1) := dk_28 (dk_at dksX4_spread_1 13 rfl rfl)
theorem dX4_spread_36 : decode cX4_spread 36 = .ok (.aload_n 0, 1) := dk_42 (dk_at dksX4_spread_1 14 rfl rfl)
theorem dX4_spread_37 : decode cX4_spread 37 = .ok (.getfield 31, 3) := dk_180 0 31 (dk_at dksX4_spread_1 15 rfl rfl)
theorem dX4_spread_40 : decode cX4_spread 40 = .ok (.if_icmp .ge 95, 3) := dk_162 0 95 (dk_at dksX4_spread_1 18 rfl rfl)
theorem dX4_spread_43 : decode cX4_spread 43 = .ok (.iconst 0, 1) := dk_3 (dk_at dksX4_spread_1 21 rfl rfl)
theorem dX4_spread_44 : decode cX4_spread 44 = .ok (.istore_n 3, 1) := dk_62 (dk_at dksX4_spread_1 22 rfl rfl)
theorem dX4_spread_45 : decode cX4_spread 45 = .ok (.iload_n 3, 1) := dk_29 (dk_at dksX4_spread_1 23 rfl rfl)
theorem dX4_spread_46 : decode cX4_spread 46 = .ok (.aload_n 0, 1) := dk_42 (dk_at dksX4_spread_2 0 rfl rfl)
theorem dX4_spread_47 : decode cX4_spread 47 = .ok (.getfield 31, 3) := dk_180 0 31 (dk_at dksX4_spread_2 1 rfl rfl)
theorem dX4_spread_50 : decode cX4_spread 50 = .ok (.if_icmp .ge 79, 3) := dk_162 0 79 (dk_at dksX4_spread_2 4 rfl rfl)
theorem dX4_spread_53 : decode cX4_spread 53 = .ok (.iconst 1, 1) := dk_4 (dk_at dksX4_spread_2 7 rfl rfl)
theorem dX4_spread_54 : decode cX4_spread 54 = .ok (.istore 4, 2) := dk_54 4 (dk_at dksX4_spread_2 8 rfl rfl)
theorem dX4_spread_56 : decode cX4_spread 56 = .ok (.iload 4, 2) := dk_21 4 (dk_at dksX4_spread_2 10 rfl rfl)
theorem dX4_spread_58 : decode cX4_spread 58 = .ok (.aload_n 0, 1) := dk_42 (dk_at dksX4_spread_2 12 rfl rfl)
theorem dX4_spread_59 : decode cX4_spread 59 = .ok (.getfield 11, 3) := dk_180 0 11 (dk_at dksX4_spread_2 13 rfl rfl)
theorem dX4_spread_62 : decode cX4_spread 62 = .ok (.iload_n 3, 1) := dk_29 (dk_at dksX4_spread_2 16 rfl rfl)
theorem dX4_spread_63 : decode cX4_spread 63 = .ok (.aaload, 1) := dk_50 (dk_at dksX4_spread_2 17 rfl rfl)
theorem dX4_spread_64 : decode cX4_spread 64 = .ok (.getfield 41, 3) := dk_180 0 41 (dk_at dksX4_spread_2 18 rfl rfl)
theorem dX4_spread_67 : decode cX4_spread 67 = .ok (.if_icmp .gt 56, 3) := dk_163 0 56 (dk_at dksX4_spread_2 21 rfl rfl)
theorem dX4_spread_70 : decode cX4_spread 70 = .ok (.aload_n 0, 1) := dk_42 (dk_at dksX4_spread_3 0 rfl rfl)
theorem dX4_spread_71 : decode cX4_spread 71 = .ok (.getfield 27, 3) := dk_180 0 27 (dk_at dksX4_spread_3 1 rfl rfl)
theorem dX4_spread_74 : decode cX4_spread 74 = .ok (.iload_n 3, 1) := dk_29 (dk_at dksX4_spread_3 4 rfl rfl)
theorem dX4_spread_75 : decode cX4_spread 75 = .ok (.iaload, 1) := dk_46 (dk_at dksX4_spread_3 5 rfl rfl)
theorem dX4_spread_76 : decode cX4_spread 76 = .ok (.iload_n 2, 1) := dk_28 (dk_at dksX4_spread_3 6 rfl rfl)
theorem dX4_spread_77 : decode cX4_spread 77 = .ok (.if_icmp .ne 46, 3) := dk_160 0 46 (dk_at dksX4_spread_3 7 rfl rfl)
theorem dX4_spread_80 : decode cX4_spread 80 = .ok (.aload_n 0, 1) := dk_42 (dk_at dksX4_spread_3 10 rfl rfl)
theorem dX4_spread_81 : decode cX4_spread 81 = .ok (.getfield 11, 3) := dk_180 0 11 (dk_at dksX4_spread_3 11 rfl rfl)
theorem dX4_spread_84 : decode cX4_spread 84 = .ok (.iload_n 3, 1) := dk_29 (dk_at dksX4_spread_3 14 rfl rfl)
theorem dX4_spread_85 : decode cX4_spread 85 = .ok (.aaload, 1) := dk_50 (dk_at dksX4_spread_3 15 rfl rfl)
theorem dX4_spread_86 : decode cX4_spread 86 = .ok (.iload 4, 2) := dk_21 4 (dk_at dksX4_spread_3 16 rfl rfl)
theorem dX4_spread_88 : decode cX4_spread 88 = .ok (.invokevirtual 42, 3) := dk_182 0 42 (dk_at dksX4_spread_3 18 rfl rfl)
theorem dX4_spread_91 : decode cX4_spread 91 = .ok (.getfield 38, 3) := dk_180 0 38 (dk_at dksX4_spread_3 21 rfl rfl)
theorem dX4_spread_94 : decode cX4_spread 94 = .ok (.istore 5, 2) := dk_54 5 (dk_at dksX4_spread_4 0 rfl rfl)
theorem dX4_spread_96 : decode cX4_spread 96 = .ok (.aload_n 0, 1) := dk_42 (dk_at dksX4_spread_4 2 rfl rfl)
theorem dX4_spread_97 : decode cX4_spread 97 = .ok (.getfield 27, 3) := dk_180 0 27 (dk_at dksX4_spread_4 3 rfl rfl)
theorem dX4_spread_100 : decode cX4_spread 100 = .ok (.iload 5, 2) := dk_21 5 (dk_at dksX4_spread_4 6 rfl rfl)
theorem dX4_spread_102 : decode cX4_spread 102 = .ok (.iaload, 1) := dk_46 (dk_at dksX4_spread_4 8 rfl rfl)
theorem dX4_spread_103 : decode cX4_spread 103 = .ok (.iconst (-1), 1) := dk_2 (dk_at dksX4_spread_4 9 rfl rfl)
theorem dX4_spread_104 : decode cX4_spread 104 = .ok (.if_icmp .ne 13, 3) := dk_160 0 13 (dk_at dksX4_spread_4 10 rfl rfl)
theorem dX4_spread_107 : decode cX4_spread 107 = .ok (.aload_n 0, 1) := dk_42 (dk_at dksX4_spread_4 13 rfl rfl)
theorem dX4_spread_108 : decode cX4_spread 108 = .ok (.getfield 27, 3) := dk_180 0 27 (dk_at dksX4_spread_4 14 rfl rfl)
theorem dX4_spread_111 : decode cX4_spread 111 = .ok (.iload 5, 2) := dk_21 5 (dk_at dksX4_spread_4 17 rfl rfl)
theorem dX4_spread_113 : decode cX4_spread 113 = .ok (.iload_n 2, 1) := dk_28 (dk_at dksX4_spread_4 19 rfl rfl)
theorem dX4_spread_114 : decode cX4_spread 114 = .ok (.iconst 1, 1) := dk_4 (dk_at dksX4_spread_4 20 rfl rfl)
theorem dX4_spread_115 : decode cX4_spread 115 = .ok (.iadd, 1) := dk_96 (dk_at dksX4_spread_4 21 rfl rfl)
theorem dX4_spread_116 : decode cX4_spread 116 = .ok (.iastore, 1) := dk_79 (dk_at dksX4_spread_4 22 rfl rfl)
theorem dX4_spread_117 : decode cX4_spread 117 = .ok (.iinc 4 1, 3) := dk_132 4 1 (dk_at dksX4_spread_5 0 rfl rfl)
theorem dX4_spread_120 : decode cX4_spread 120 = .ok (.goto (-64), 3) := dk_167 255 192 (dk_at dksX4_spread_5 3 rfl rfl)
theorem dX4_spread_123 : decode cX4_spread 123 = .ok (.iinc 3 1, 3) := dk_132 3 1 (dk_at dksX4_spread_5 6 rfl rfl)
theorem dX4_spread_126 : decode cX4_spread 126 = .ok (.goto (-81), 3) := dk_167 255 175 (dk_at dksX4_spread_5 9 rfl rfl)
theorem dX4_spread_129 : decode cX4_spread 129 = .ok (.iinc 2 1, 3) := dk_132 2 1 (dk_at dksX4_spread_5 12 rfl rfl)
theorem dX4_spread_132 : decode cX4_spread 132 = .ok (.goto (-97), 3) := dk_167 255 159 (dk_at dksX4_spread_5 15 rfl rfl)
theorem dX4_spread_135 : decode cX4_spread 135 = .ok (.return_, 1) := dk_177 (dk_at dksX4_spread_5 18 rfl rfl)
theorem q123 : (Jvm.Cond.initialized "TwoSeek$Town") ∈ lw_all := lw_g (lw_at lw_m1 8 rfl) rfl
theorem q308 : (Jvm.Cond.instantiable "TwoSeek$Town" (8 : Nat)) ∈ lw_all := lw_g (lw_at lw_m1 193 rfl) rfl
theorem q310 : (Jvm.Cond.instanceMethod ({ cls := "TwoSeek$Town", name := "<init>", desc := "()V" } : Jvm.MethodName)) ∈ lw_all := lw_g (lw_at lw_m1 195 rfl) rfl
theorem q311 : (Jvm.Cond.code ({ cls := "TwoSeek$Town", name := "<init>", desc := "()V" } : Jvm.MethodName) prog_9_method_1_code (1 : Nat) (Option.none : Option Jvm.ClassFile.FieldType)) ∈ lw_all := lw_g (lw_at lw_m1 196 rfl) rfl
theorem q312 : (Jvm.Cond.methodLink "TwoSeek$Town" (3 : Nat) ({ cls := "java/lang/Object", name := "<init>", desc := "()V" } : Jvm.MethodName)) ∈ lw_all := lw_g (lw_at lw_m1 197 rfl) rfl
theorem q313 : (Jvm.Cond.classLink "TwoSeek$Town" (9 : Nat) "TwoSeek$Place") ∈ lw_all := lw_g (lw_at lw_m1 198 rfl) rfl
theorem q315 : (Jvm.Cond.classLink "TwoSeek$Town" (17 : Nat) "TwoSeek$Lane") ∈ lw_all := lw_g (lw_at lw_m1 200 rfl) rfl
theorem q317 : (Jvm.Cond.fieldLink "TwoSeek$Town" (11 : Nat) "TwoSeek$Town" "places" "[LTwoSeek$Place;") ∈ lw_all := lw_g (lw_at lw_m1 202 rfl) rfl
theorem q320 : (Jvm.Cond.fieldLink "TwoSeek$Town" (19 : Nat) "TwoSeek$Town" "lanes" "[LTwoSeek$Lane;") ∈ lw_all := lw_g (lw_at lw_m1 205 rfl) rfl
theorem q323 : (Jvm.Cond.fieldLink "TwoSeek$Town" (31 : Nat) "TwoSeek$Town" "many" "I") ∈ lw_all := lw_g (lw_at lw_m1 208 rfl) rfl
theorem q328 : (Jvm.Cond.fieldLink "TwoSeek$Town" (23 : Nat) "TwoSeek$Town" "slow" "I") ∈ lw_all := lw_g (lw_at lw_m1 213 rfl) rfl
theorem q335 : (Jvm.Cond.fieldLink "TwoSeek$Town" (27 : Nat) "TwoSeek$Town" "far" "[I") ∈ lw_all := lw_g (lw_at lw_m1 220 rfl) rfl
theorem q337 : (Jvm.Cond.laysFinal "TwoSeek$Town" "TwoSeek$Town" "places" "[LTwoSeek$Place;") ∈ lw_all := lw_g (lw_at lw_m1 222 rfl) rfl
theorem q338 : (Jvm.Cond.soleField "TwoSeek$Town" "places") ∈ lw_all := lw_g (lw_at lw_m1 223 rfl) rfl
theorem q339 : (Jvm.Cond.laysFinal "TwoSeek$Town" "TwoSeek$Town" "lanes" "[LTwoSeek$Lane;") ∈ lw_all := lw_g (lw_at lw_m1 224 rfl) rfl
theorem q340 : (Jvm.Cond.soleField "TwoSeek$Town" "lanes") ∈ lw_all := lw_g (lw_at lw_m1 225 rfl) rfl
theorem q341 : (Jvm.Cond.lays "TwoSeek$Town" "TwoSeek$Town" "many" "I") ∈ lw_all := lw_g (lw_at lw_m1 226 rfl) rfl
theorem q342 : (Jvm.Cond.soleField "TwoSeek$Town" "many") ∈ lw_all := lw_g (lw_at lw_m1 227 rfl) rfl
theorem q343 : (Jvm.Cond.lays "TwoSeek$Town" "TwoSeek$Town" "laneMany" "I") ∈ lw_all := lw_g (lw_at lw_m1 228 rfl) rfl
theorem q344 : (Jvm.Cond.soleField "TwoSeek$Town" "laneMany") ∈ lw_all := lw_g (lw_at lw_m1 229 rfl) rfl
theorem q345 : (Jvm.Cond.lays "TwoSeek$Town" "TwoSeek$Town" "slow" "I") ∈ lw_all := lw_g (lw_at lw_m1 230 rfl) rfl
theorem q346 : (Jvm.Cond.soleField "TwoSeek$Town" "slow") ∈ lw_all := lw_g (lw_at lw_m1 231 rfl) rfl
theorem q347 : (Jvm.Cond.lays "TwoSeek$Town" "TwoSeek$Town" "hears" "I") ∈ lw_all := lw_g (lw_at lw_m1 232 rfl) rfl
theorem q348 : (Jvm.Cond.soleField "TwoSeek$Town" "hears") ∈ lw_all := lw_g (lw_at lw_m1 233 rfl) rfl
theorem q349 : (Jvm.Cond.lays "TwoSeek$Town" "TwoSeek$Town" "crosses" "Z") ∈ lw_all := lw_g (lw_at lw_m1 234 rfl) rfl
theorem q350 : (Jvm.Cond.soleField "TwoSeek$Town" "crosses") ∈ lw_all := lw_g (lw_at lw_m1 235 rfl) rfl
theorem q351 : (Jvm.Cond.laysFinal "TwoSeek$Town" "TwoSeek$Town" "far" "[I") ∈ lw_all := lw_g (lw_at lw_m1 236 rfl) rfl
theorem q352 : (Jvm.Cond.soleField "TwoSeek$Town" "far") ∈ lw_all := lw_g (lw_at lw_m1 237 rfl) rfl
theorem q353 : (Jvm.Cond.superclass "TwoSeek$Town" "java/lang/Object") ∈ lw_all := lw_g (lw_at lw_m1 238 rfl) rfl
theorem q770 : (Jvm.Cond.instanceMethod ({ cls := "TwoSeek$Town", name := "named", desc := "(J)LTwoSeek$Place;" } : Jvm.MethodName)) ∈ lw_all := lw_g (lw_at lw_m3 175 rfl) rfl
theorem q771 : (Jvm.Cond.selects "TwoSeek$Town" ({ cls := "TwoSeek$Town", name := "named", desc := "(J)LTwoSeek$Place;" } : Jvm.MethodName) ({ cls := "TwoSeek$Town", name := "named", desc := "(J)LTwoSeek$Place;" } : Jvm.MethodName)) ∈ lw_all := lw_g (lw_at lw_m3 176 rfl) rfl
theorem q772 : (Jvm.Cond.code ({ cls := "TwoSeek$Town", name := "named", desc := "(J)LTwoSeek$Place;" } : Jvm.MethodName) prog_9_method_2_code (4 : Nat) (Option.some (Jvm.ClassFile.FieldType.object "TwoSeek$Place"))) ∈ lw_all := lw_g (lw_at lw_m3 177 rfl) rfl
theorem q781 : (Jvm.Cond.fieldLink "TwoSeek$Town" (34 : Nat) "TwoSeek$Place" "name" "J") ∈ lw_all := lw_g (lw_at lw_m3 186 rfl) rfl
theorem q783 : (Jvm.Cond.fieldLink "TwoSeek$Town" (38 : Nat) "TwoSeek$Place" "number" "I") ∈ lw_all := lw_g (lw_at lw_m3 188 rfl) rfl
theorem q795 : (Jvm.Cond.fieldLinkNest "TwoSeek$Town" (41 : Nat) "TwoSeek$Place" "many" "I" "TwoSeek") ∈ lw_tbl := lw_at lw_m3 200 rfl
theorem q894 : (Jvm.Cond.instanceMethod ({ cls := "TwoSeek$Town", name := "spread", desc := "(LTwoSeek$Place;)V" } : Jvm.MethodName)) ∈ lw_all := lw_g (lw_at lw_m4 59 rfl) rfl
theorem q895 : (Jvm.Cond.selects "TwoSeek$Town" ({ cls := "TwoSeek$Town", name := "spread", desc := "(LTwoSeek$Place;)V" } : Jvm.MethodName) ({ cls := "TwoSeek$Town", name := "spread", desc := "(LTwoSeek$Place;)V" } : Jvm.MethodName)) ∈ lw_all := lw_g (lw_at lw_m4 60 rfl) rfl
theorem q896 : (Jvm.Cond.code ({ cls := "TwoSeek$Town", name := "spread", desc := "(LTwoSeek$Place;)V" } : Jvm.MethodName) prog_9_method_3_code (6 : Nat) (Option.none : Option Jvm.ClassFile.FieldType)) ∈ lw_all := lw_g (lw_at lw_m4 61 rfl) rfl
theorem q897 : (Jvm.Cond.methodLink "TwoSeek$Town" (42 : Nat) ({ cls := "TwoSeek$Place", name := "by", desc := "(I)LTwoSeek$Place;" } : Jvm.MethodName)) ∈ lw_all := lw_g (lw_at lw_m4 62 rfl) rfl
theorem in_X4 : ∀ w ∈ wsX40, w ∈ lw_all := lw_in wsX40 [337, 339, 341, 343, 345, 347, 349, 351] (by decide +kernel) (by decide +kernel)

/-! TwoSeek$Tray -/
set_option maxRecDepth 100000
def RX5 : String := "TwoSeek$Tray"
def TX5 : u_T := fun k => match k with
  | 0 => ("TwoSeek$Tray", "row", "Ljava/lang/Object;", false)
  | _ => ("TwoSeek$Tray", "sort", "I", false)
def tyX5 : Nat → FieldType := fun k => match k with
  | 0 => .object "java/lang/Object"
  | _ => .int
abbrev wsX50 : List Cond := u_ws RX5 TX5 2
theorem nmX5 : ∀ a, a < 2 → ∀ b, b < 2 → a ≠ b → (TX5 a).2.1 ≠ (TX5 b).2.1 := by decide +kernel
theorem tyX5_ok : ∀ k, k < 2 → parseFieldDescriptor (TX5 k).2.2.1 = some (tyX5 k) := by decide +kernel
abbrev cX5_init : ByteArray := prog_10_method_1_code
def yX5_init : MethodName := ⟨RX5, "<init>", "()V"⟩
theorem dX5_init_0 : decode cX5_init 0 = .ok (.aload_n 0, 1) := by decide +kernel
theorem dX5_init_1 : decode cX5_init 1 = .ok (.invokespecial 1, 3) := by decide +kernel
theorem dX5_init_4 : decode cX5_init 4 = .ok (.return_, 1) := by decide +kernel
abbrev cX5_make : ByteArray := prog_10_method_2_code
def yX5_make : MethodName := ⟨RX5, "make", "(II)V"⟩
def dkwX5_make_1 : List UInt8 := [160, 0, 9, 28, 188, 10, 167, 0, 6, 28, 188, 11, 78, 42, 45, 181, 0, 7, 42, 27, 181, 0, 13, 177]
abbrev dktX5_make_1 : List UInt8 := dkwX5_make_1 ++ []
def dkwX5_make_0 : List UInt8 := [27, 154, 0, 9, 28, 188, 8, 167, 0, 28, 27, 4, 160, 0, 9, 28, 188, 9, 167, 0, 17, 27, 5]
abbrev dktX5_make_0 : List UInt8 := dkwX5_make_0 ++ dktX5_make_1
theorem dksX5_make_0 : cX5_make.data.toList.drop 0 = dktX5_make_0 := by decide +kernel
theorem dksX5_make_1 : cX5_make.data.toList.drop 23 = dktX5_make_1 := dk_seg dksX5_make_0 23 rfl rfl
theorem dX5_make_0 : decode cX5_make 0 = .ok (.iload_n 1, 1) := dk_27 (dk_at dksX5_make_0 0 rfl rfl)
theorem dX5_make_1 : decode cX5_make 1 = .ok (.ifCond .ne 9, 3) := dk_154 0 9 (dk_at dksX5_make_0 1 rfl rfl)
theorem dX5_make_4 : decode cX5_make 4 = .ok (.iload_n 2, 1) := dk_28 (dk_at dksX5_make_0 4 rfl rfl)
theorem dX5_make_5 : decode cX5_make 5 = .ok (.newarray .byte, 2) := dk_188_8 (dk_at dksX5_make_0 5 rfl rfl)
theorem dX5_make_7 : decode cX5_make 7 = .ok (.goto 28, 3) := dk_167 0 28 (dk_at dksX5_make_0 7 rfl rfl)
theorem dX5_make_10 : decode cX5_make 10 = .ok (.iload_n 1, 1) := dk_27 (dk_at dksX5_make_0 10 rfl rfl)
theorem dX5_make_11 : decode cX5_make 11 = .ok (.iconst 1, 1) := dk_4 (dk_at dksX5_make_0 11 rfl rfl)
theorem dX5_make_12 : decode cX5_make 12 = .ok (.if_icmp .ne 9, 3) := dk_160 0 9 (dk_at dksX5_make_0 12 rfl rfl)
theorem dX5_make_15 : decode cX5_make 15 = .ok (.iload_n 2, 1) := dk_28 (dk_at dksX5_make_0 15 rfl rfl)
theorem dX5_make_16 : decode cX5_make 16 = .ok (.newarray .short, 2) := dk_188_9 (dk_at dksX5_make_0 16 rfl rfl)
theorem dX5_make_18 : decode cX5_make 18 = .ok (.goto 17, 3) := dk_167 0 17 (dk_at dksX5_make_0 18 rfl rfl)
theorem dX5_make_21 : decode cX5_make 21 = .ok (.iload_n 1, 1) := dk_27 (dk_at dksX5_make_0 21 rfl rfl)
theorem dX5_make_22 : decode cX5_make 22 = .ok (.iconst 2, 1) := dk_5 (dk_at dksX5_make_0 22 rfl rfl)
theorem dX5_make_23 : decode cX5_make 23 = .ok (.if_icmp .ne 9, 3) := dk_160 0 9 (dk_at dksX5_make_1 0 rfl rfl)
theorem dX5_make_26 : decode cX5_make 26 = .ok (.iload_n 2, 1) := dk_28 (dk_at dksX5_make_1 3 rfl rfl)
theorem dX5_make_27 : decode cX5_make 27 = .ok (.newarray .int, 2) := dk_188_10 (dk_at dksX5_make_1 4 rfl rfl)
theorem dX5_make_29 : decode cX5_make 29 = .ok (.goto 6, 3) := dk_167 0 6 (dk_at dksX5_make_1 6 rfl rfl)
theorem dX5_make_32 : decode cX5_make 32 = .ok (.iload_n 2, 1) := dk_28 (dk_at dksX5_make_1 9 rfl rfl)
theorem dX5_make_33 : decode cX5_make 33 = .ok (.newarray .long, 2) := dk_188_11 (dk_at dksX5_make_1 10 rfl rfl)
theorem dX5_make_35 : decode cX5_make 35 = .ok (.astore_n 3, 1) := dk_78 (dk_at dksX5_make_1 12 rfl rfl)
theorem dX5_make_36 : decode cX5_make 36 = .ok (.aload_n 0, 1) := dk_42 (dk_at dksX5_make_1 13 rfl rfl)
theorem dX5_make_37 : decode cX5_make 37 = .ok (.aload_n 3, 1) := dk_45 (dk_at dksX5_make_1 14 rfl rfl)
theorem dX5_make_38 : decode cX5_make 38 = .ok (.putfield 7, 3) := dk_181 0 7 (dk_at dksX5_make_1 15 rfl rfl)
theorem dX5_make_41 : decode cX5_make 41 = .ok (.aload_n 0, 1) := dk_42 (dk_at dksX5_make_1 18 rfl rfl)
theorem dX5_make_42 : decode cX5_make 42 = .ok (.iload_n 1, 1) := dk_27 (dk_at dksX5_make_1 19 rfl rfl)
theorem dX5_make_43 : decode cX5_make 43 = .ok (.putfield 13, 3) := dk_181 0 13 (dk_at dksX5_make_1 20 rfl rfl)
theorem dX5_make_46 : decode cX5_make 46 = .ok (.return_, 1) := dk_177 (dk_at dksX5_make_1 23 rfl rfl)
abbrev cX5_set : ByteArray := prog_10_method_5_code
def yX5_set : MethodName := ⟨RX5, "set", "(IJ)V"⟩
def dkwX5_set_3 : List UInt8 := [180, 0, 7, 192, 0, 23, 27, 32, 80, 177]
abbrev dktX5_set_3 : List UInt8 := dkwX5_set_3 ++ []
def dkwX5_set_2 : List UInt8 := [180, 0, 13, 5, 160, 0, 17, 42, 180, 0, 7, 192, 0, 21, 27, 32, 136, 79, 167, 0, 13, 42]
abbrev dktX5_set_2 : List UInt8 := dkwX5_set_2 ++ dktX5_set_3
def dkwX5_set_1 : List UInt8 := [180, 0, 13, 4, 160, 0, 18, 42, 180, 0, 7, 192, 0, 19, 27, 32, 136, 147, 86, 167, 0, 35, 42]
abbrev dktX5_set_1 : List UInt8 := dkwX5_set_1 ++ dktX5_set_2
def dkwX5_set_0 : List UInt8 := [42, 180, 0, 13, 154, 0, 18, 42, 180, 0, 7, 192, 0, 17, 27, 32, 136, 145, 84, 167, 0, 58, 42]
abbrev dktX5_set_0 : List UInt8 := dkwX5_set_0 ++ dktX5_set_1
theorem dksX5_set_0 : cX5_set.data.toList.drop 0 = dktX5_set_0 := by decide +kernel
theorem dksX5_set_1 : cX5_set.data.toList.drop 23 = dktX5_set_1 := dk_seg dksX5_set_0 23 rfl rfl
theorem dksX5_set_2 : cX5_set.data.toList.drop 46 = dktX5_set_2 := dk_seg dksX5_set_1 23 rfl rfl
theorem dksX5_set_3 : cX5_set.data.toList.drop 68 = dktX5_set_3 := dk_seg dksX5_set_2 22 rfl rfl
theorem dX5_set_0 : decode cX5_set 0 = .ok (.aload_n 0, 1) := dk_42 (dk_at dksX5_set_0 0 rfl rfl)
theorem dX5_set_1 : decode cX5_set 1 = .ok (.getfield 13, 3) := dk_180 0 13 (dk_at dksX5_set_0 1 rfl rfl)
theorem dX5_set_4 : decode cX5_set 4 = .ok (.ifCond .ne 18, 3) := dk_154 0 18 (dk_at dksX5_set_0 4 rfl rfl)
theorem dX5_set_7 : decode cX5_set 7 = .ok (.aload_n 0, 1) := dk_42 (dk_at dksX5_set_0 7 rfl rfl)
theorem dX5_set_8 : decode cX5_set 8 = .ok (.getfield 7, 3) := dk_180 0 7 (dk_at dksX5_set_0 8 rfl rfl)
theorem dX5_set_11 : decode cX5_set 11 = .ok (.checkcast 17, 3) := dk_192 0 17 (dk_at dksX5_set_0 11 rfl rfl)
theorem dX5_set_14 : decode cX5_set 14 = .ok (.iload_n 1, 1) := dk_27 (dk_at dksX5_set_0 14 rfl rfl)
theorem dX5_set_15 : decode cX5_set 15 = .ok (.lload_n 2, 1) := dk_32 (dk_at dksX5_set_0 15 rfl rfl)
theorem dX5_set_16 : decode cX5_set 16 = .ok (.l2i, 1) := dk_136 (dk_at dksX5_set_0 16 rfl rfl)
theorem dX5_set_17 : decode cX5_set 17 = .ok (.i2b, 1) := dk_145 (dk_at dksX5_set_0 17 rfl rfl)
theorem dX5_set_18 : decode cX5_set 18 = .ok (.bastore, 1) := dk_84 (dk_at dksX5_set_0 18 rfl rfl)
theorem dX5_set_19 : decode cX5_set 19 = .ok (.goto 58, 3) := dk_167 0 58 (dk_at dksX5_set_0 19 rfl rfl)
theorem dX5_set_22 : decode cX5_set 22 = .ok (.aload_n 0, 1) := dk_42 (dk_at dksX5_set_0 22 rfl rfl)
theorem dX5_set_23 : decode cX5_set 23 = .ok (.getfield 13, 3) := dk_180 0 13 (dk_at dksX5_set_1 0 rfl rfl)
theorem dX5_set_26 : decode cX5_set 26 = .ok (.iconst 1, 1) := dk_4 (dk_at dksX5_set_1 3 rfl rfl)
theorem dX5_set_27 : decode cX5_set 27 = .ok (.if_icmp .ne 18, 3) := dk_160 0 18 (dk_at dksX5_set_1 4 rfl rfl)
theorem dX5_set_30 : decode cX5_set 30 = .ok (.aload_n 0, 1) := dk_42 (dk_at dksX5_set_1 7 rfl rfl)
theorem dX5_set_31 : decode cX5_set 31 = .ok (.getfield 7, 3) := dk_180 0 7 (dk_at dksX5_set_1 8 rfl rfl)
theorem dX5_set_34 : decode cX5_set 34 = .ok (.checkcast 19, 3) := dk_192 0 19 (dk_at dksX5_set_1 11 rfl rfl)
theorem dX5_set_37 : decode cX5_set 37 = .ok (.iload_n 1, 1) := dk_27 (dk_at dksX5_set_1 14 rfl rfl)
theorem dX5_set_38 : decode cX5_set 38 = .ok (.lload_n 2, 1) := dk_32 (dk_at dksX5_set_1 15 rfl rfl)
theorem dX5_set_39 : decode cX5_set 39 = .ok (.l2i, 1) := dk_136 (dk_at dksX5_set_1 16 rfl rfl)
theorem dX5_set_40 : decode cX5_set 40 = .ok (.i2s, 1) := dk_147 (dk_at dksX5_set_1 17 rfl rfl)
theorem dX5_set_41 : decode cX5_set 41 = .ok (.sastore, 1) := dk_86 (dk_at dksX5_set_1 18 rfl rfl)
theorem dX5_set_42 : decode cX5_set 42 = .ok (.goto 35, 3) := dk_167 0 35 (dk_at dksX5_set_1 19 rfl rfl)
theorem dX5_set_45 : decode cX5_set 45 = .ok (.aload_n 0, 1) := dk_42 (dk_at dksX5_set_1 22 rfl rfl)
theorem dX5_set_46 : decode cX5_set 46 = .ok (.getfield 13, 3) := dk_180 0 13 (dk_at dksX5_set_2 0 rfl rfl)
theorem dX5_set_49 : decode cX5_set 49 = .ok (.iconst 2, 1) := dk_5 (dk_at dksX5_set_2 3 rfl rfl)
theorem dX5_set_50 : decode cX5_set 50 = .ok (.if_icmp .ne 17, 3) := dk_160 0 17 (dk_at dksX5_set_2 4 rfl rfl)
theorem dX5_set_53 : decode cX5_set 53 = .ok (.aload_n 0, 1) := dk_42 (dk_at dksX5_set_2 7 rfl rfl)
theorem dX5_set_54 : decode cX5_set 54 = .ok (.getfield 7, 3) := dk_180 0 7 (dk_at dksX5_set_2 8 rfl rfl)
theorem dX5_set_57 : decode cX5_set 57 = .ok (.checkcast 21, 3) := dk_192 0 21 (dk_at dksX5_set_2 11 rfl rfl)
theorem dX5_set_60 : decode cX5_set 60 = .ok (.iload_n 1, 1) := dk_27 (dk_at dksX5_set_2 14 rfl rfl)
theorem dX5_set_61 : decode cX5_set 61 = .ok (.lload_n 2, 1) := dk_32 (dk_at dksX5_set_2 15 rfl rfl)
theorem dX5_set_62 : decode cX5_set 62 = .ok (.l2i, 1) := dk_136 (dk_at dksX5_set_2 16 rfl rfl)
theorem dX5_set_63 : decode cX5_set 63 = .ok (.iastore, 1) := dk_79 (dk_at dksX5_set_2 17 rfl rfl)
theorem dX5_set_64 : decode cX5_set 64 = .ok (.goto 13, 3) := dk_167 0 13 (dk_at dksX5_set_2 18 rfl rfl)
theorem dX5_set_67 : decode cX5_set 67 = .ok (.aload_n 0, 1) := dk_42 (dk_at dksX5_set_2 21 rfl rfl)
theorem dX5_set_68 : decode cX5_set 68 = .ok (.getfield 7, 3) := dk_180 0 7 (dk_at dksX5_set_3 0 rfl rfl)
theorem dX5_set_71 : decode cX5_set 71 = .ok (.checkcast 23, 3) := dk_192 0 23 (dk_at dksX5_set_3 3 rfl rfl)
theorem dX5_set_74 : decode cX5_set 74 = .ok (.iload_n 1, 1) := dk_27 (dk_at dksX5_set_3 6 rfl rfl)
theorem dX5_set_75 : decode cX5_set 75 = .ok (.lload_n 2, 1) := dk_32 (dk_at dksX5_set_3 7 rfl rfl)
theorem dX5_set_76 : decode cX5_set 76 = .ok (.lastore, 1) := dk_80 (dk_at dksX5_set_3 8 rfl rfl)
theorem dX5_set_77 : decode cX5_set 77 = .ok (.return_, 1) := dk_177 (dk_at dksX5_set_3 9 rfl rfl)
abbrev cX5_get : ByteArray := prog_10_method_4_code
def yX5_get : MethodName := ⟨RX5, "get", "(I)J"⟩
def dkwX5_get_3 : List UInt8 := [47, 173]
abbrev dktX5_get_3 : List UInt8 := dkwX5_get_3 ++ []
def dkwX5_get_2 : List UInt8 := [160, 0, 16, 42, 180, 0, 7, 192, 0, 21, 27, 46, 133, 167, 0, 12, 42, 180, 0, 7, 192, 0, 23, 27]
abbrev dktX5_get_2 : List UInt8 := dkwX5_get_2 ++ dktX5_get_3
def dkwX5_get_1 : List UInt8 := [4, 160, 0, 16, 42, 180, 0, 7, 192, 0, 19, 27, 53, 133, 167, 0, 33, 42, 180, 0, 13, 5]
abbrev dktX5_get_1 : List UInt8 := dkwX5_get_1 ++ dktX5_get_2
def dkwX5_get_0 : List UInt8 := [42, 180, 0, 13, 154, 0, 16, 42, 180, 0, 7, 192, 0, 17, 27, 51, 133, 167, 0, 54, 42, 180, 0, 13]
abbrev dktX5_get_0 : List UInt8 := dkwX5_get_0 ++ dktX5_get_1
theorem dksX5_get_0 : cX5_get.data.toList.drop 0 = dktX5_get_0 := by decide +kernel
theorem dksX5_get_1 : cX5_get.data.toList.drop 24 = dktX5_get_1 := dk_seg dksX5_get_0 24 rfl rfl
theorem dksX5_get_2 : cX5_get.data.toList.drop 46 = dktX5_get_2 := dk_seg dksX5_get_1 22 rfl rfl
theorem dksX5_get_3 : cX5_get.data.toList.drop 70 = dktX5_get_3 := dk_seg dksX5_get_2 24 rfl rfl
theorem dX5_get_0 : decode cX5_get 0 = .ok (.aload_n 0, 1) := dk_42 (dk_at dksX5_get_0 0 rfl rfl)
theorem dX5_get_1 : decode cX5_get 1 = .ok (.getfield 13, 3) := dk_180 0 13 (dk_at dksX5_get_0 1 rfl rfl)
theorem dX5_get_4 : decode cX5_get 4 = .ok (.ifCond .ne 16, 3) := dk_154 0 16 (dk_at dksX5_get_0 4 rfl rfl)
theorem dX5_get_7 : decode cX5_get 7 = .ok (.aload_n 0, 1) := dk_42 (dk_at dksX5_get_0 7 rfl rfl)
theorem dX5_get_8 : decode cX5_get 8 = .ok (.getfield 7, 3) := dk_180 0 7 (dk_at dksX5_get_0 8 rfl rfl)
theorem dX5_get_11 : decode cX5_get 11 = .ok (.checkcast 17, 3) := dk_192 0 17 (dk_at dksX5_get_0 11 rfl rfl)
theorem dX5_get_14 : decode cX5_get 14 = .ok (.iload_n 1, 1) := dk_27 (dk_at dksX5_get_0 14 rfl rfl)
theorem dX5_get_15 : decode cX5_get 15 = .ok (.baload, 1) := dk_51 (dk_at dksX5_get_0 15 rfl rfl)
theorem dX5_get_16 : decode cX5_get 16 = .ok (.i2l, 1) := dk_133 (dk_at dksX5_get_0 16 rfl rfl)
theorem dX5_get_17 : decode cX5_get 17 = .ok (.goto 54, 3) := dk_167 0 54 (dk_at dksX5_get_0 17 rfl rfl)
theorem dX5_get_20 : decode cX5_get 20 = .ok (.aload_n 0, 1) := dk_42 (dk_at dksX5_get_0 20 rfl rfl)
theorem dX5_get_21 : decode cX5_get 21 = .ok (.getfield 13, 3) := dk_180 0 13 (dk_at dksX5_get_0 21 rfl rfl)
theorem dX5_get_24 : decode cX5_get 24 = .ok (.iconst 1, 1) := dk_4 (dk_at dksX5_get_1 0 rfl rfl)
theorem dX5_get_25 : decode cX5_get 25 = .ok (.if_icmp .ne 16, 3) := dk_160 0 16 (dk_at dksX5_get_1 1 rfl rfl)
theorem dX5_get_28 : decode cX5_get 28 = .ok (.aload_n 0, 1) := dk_42 (dk_at dksX5_get_1 4 rfl rfl)
theorem dX5_get_29 : decode cX5_get 29 = .ok (.getfield 7, 3) := dk_180 0 7 (dk_at dksX5_get_1 5 rfl rfl)
theorem dX5_get_32 : decode cX5_get 32 = .ok (.checkcast 19, 3) := dk_192 0 19 (dk_at dksX5_get_1 8 rfl rfl)
theorem dX5_get_35 : decode cX5_get 35 = .ok (.iload_n 1, 1) := dk_27 (dk_at dksX5_get_1 11 rfl rfl)
theorem dX5_get_36 : decode cX5_get 36 = .ok (.saload, 1) := dk_53 (dk_at dksX5_get_1 12 rfl rfl)
theorem dX5_get_37 : decode cX5_get 37 = .ok (.i2l, 1) := dk_133 (dk_at dksX5_get_1 13 rfl rfl)
theorem dX5_get_38 : decode cX5_get 38 = .ok (.goto 33, 3) := dk_167 0 33 (dk_at dksX5_get_1 14 rfl rfl)
theorem dX5_get_41 : decode cX5_get 41 = .ok (.aload_n 0, 1) := dk_42 (dk_at dksX5_get_1 17 rfl rfl)
theorem dX5_get_42 : decode cX5_get 42 = .ok (.getfield 13, 3) := dk_180 0 13 (dk_at dksX5_get_1 18 rfl rfl)
theorem dX5_get_45 : decode cX5_get 45 = .ok (.iconst 2, 1) := dk_5 (dk_at dksX5_get_1 21 rfl rfl)
theorem dX5_get_46 : decode cX5_get 46 = .ok (.if_icmp .ne 16, 3) := dk_160 0 16 (dk_at dksX5_get_2 0 rfl rfl)
theorem dX5_get_49 : decode cX5_get 49 = .ok (.aload_n 0, 1) := dk_42 (dk_at dksX5_get_2 3 rfl rfl)
theorem dX5_get_50 : decode cX5_get 50 = .ok (.getfield 7, 3) := dk_180 0 7 (dk_at dksX5_get_2 4 rfl rfl)
theorem dX5_get_53 : decode cX5_get 53 = .ok (.checkcast 21, 3) := dk_192 0 21 (dk_at dksX5_get_2 7 rfl rfl)
theorem dX5_get_56 : decode cX5_get 56 = .ok (.iload_n 1, 1) := dk_27 (dk_at dksX5_get_2 10 rfl rfl)
theorem dX5_get_57 : decode cX5_get 57 = .ok (.iaload, 1) := dk_46 (dk_at dksX5_get_2 11 rfl rfl)
theorem dX5_get_58 : decode cX5_get 58 = .ok (.i2l, 1) := dk_133 (dk_at dksX5_get_2 12 rfl rfl)
theorem dX5_get_59 : decode cX5_get 59 = .ok (.goto 12, 3) := dk_167 0 12 (dk_at dksX5_get_2 13 rfl rfl)
theorem dX5_get_62 : decode cX5_get 62 = .ok (.aload_n 0, 1) := dk_42 (dk_at dksX5_get_2 16 rfl rfl)
theorem dX5_get_63 : decode cX5_get 63 = .ok (.getfield 7, 3) := dk_180 0 7 (dk_at dksX5_get_2 17 rfl rfl)
theorem dX5_get_66 : decode cX5_get 66 = .ok (.checkcast 23, 3) := dk_192 0 23 (dk_at dksX5_get_2 20 rfl rfl)
theorem dX5_get_69 : decode cX5_get 69 = .ok (.iload_n 1, 1) := dk_27 (dk_at dksX5_get_2 23 rfl rfl)
theorem dX5_get_70 : decode cX5_get 70 = .ok (.laload, 1) := dk_47 (dk_at dksX5_get_3 0 rfl rfl)
theorem dX5_get_71 : decode cX5_get 71 = .ok (.lreturn, 1) := dk_173 (dk_at dksX5_get_3 1 rfl rfl)
abbrev cX5_many : ByteArray := prog_10_method_3_code
def yX5_many : MethodName := ⟨RX5, "many", "()I"⟩
def dkwX5_many_2 : List UInt8 := [180, 0, 7, 192, 0, 21, 190, 167, 0, 11, 42, 180, 0, 7, 192, 0, 23, 190, 172]
abbrev dktX5_many_2 : List UInt8 := dkwX5_many_2 ++ []
def dkwX5_many_1 : List UInt8 := [160, 0, 14, 42, 180, 0, 7, 192, 0, 19, 190, 167, 0, 30, 42, 180, 0, 13, 5, 160, 0, 14, 42]
abbrev dktX5_many_1 : List UInt8 := dkwX5_many_1 ++ dktX5_many_2
def dkwX5_many_0 : List UInt8 := [42, 180, 0, 13, 154, 0, 14, 42, 180, 0, 7, 192, 0, 17, 190, 167, 0, 49, 42, 180, 0, 13, 4]
abbrev dktX5_many_0 : List UInt8 := dkwX5_many_0 ++ dktX5_many_1
theorem dksX5_many_0 : cX5_many.data.toList.drop 0 = dktX5_many_0 := by decide +kernel
theorem dksX5_many_1 : cX5_many.data.toList.drop 23 = dktX5_many_1 := dk_seg dksX5_many_0 23 rfl rfl
theorem dksX5_many_2 : cX5_many.data.toList.drop 46 = dktX5_many_2 := dk_seg dksX5_many_1 23 rfl rfl
theorem dX5_many_0 : decode cX5_many 0 = .ok (.aload_n 0, 1) := dk_42 (dk_at dksX5_many_0 0 rfl rfl)
theorem dX5_many_1 : decode cX5_many 1 = .ok (.getfield 13, 3) := dk_180 0 13 (dk_at dksX5_many_0 1 rfl rfl)
theorem dX5_many_4 : decode cX5_many 4 = .ok (.ifCond .ne 14, 3) := dk_154 0 14 (dk_at dksX5_many_0 4 rfl rfl)
theorem dX5_many_7 : decode cX5_many 7 = .ok (.aload_n 0, 1) := dk_42 (dk_at dksX5_many_0 7 rfl rfl)
theorem dX5_many_8 : decode cX5_many 8 = .ok (.getfield 7, 3) := dk_180 0 7 (dk_at dksX5_many_0 8 rfl rfl)
theorem dX5_many_11 : decode cX5_many 11 = .ok (.checkcast 17, 3) := dk_192 0 17 (dk_at dksX5_many_0 11 rfl rfl)
theorem dX5_many_14 : decode cX5_many 14 = .ok (.arraylength, 1) := dk_190 (dk_at dksX5_many_0 14 rfl rfl)
theorem dX5_many_15 : decode cX5_many 15 = .ok (.goto 49, 3) := dk_167 0 49 (dk_at dksX5_many_0 15 rfl rfl)
theorem dX5_many_18 : decode cX5_many 18 = .ok (.aload_n 0, 1) := dk_42 (dk_at dksX5_many_0 18 rfl rfl)
theorem dX5_many_19 : decode cX5_many 19 = .ok (.getfield 13, 3) := dk_180 0 13 (dk_at dksX5_many_0 19 rfl rfl)
theorem dX5_many_22 : decode cX5_many 22 = .ok (.iconst 1, 1) := dk_4 (dk_at dksX5_many_0 22 rfl rfl)
theorem dX5_many_23 : decode cX5_many 23 = .ok (.if_icmp .ne 14, 3) := dk_160 0 14 (dk_at dksX5_many_1 0 rfl rfl)
theorem dX5_many_26 : decode cX5_many 26 = .ok (.aload_n 0, 1) := dk_42 (dk_at dksX5_many_1 3 rfl rfl)
theorem dX5_many_27 : decode cX5_many 27 = .ok (.getfield 7, 3) := dk_180 0 7 (dk_at dksX5_many_1 4 rfl rfl)
theorem dX5_many_30 : decode cX5_many 30 = .ok (.checkcast 19, 3) := dk_192 0 19 (dk_at dksX5_many_1 7 rfl rfl)
theorem dX5_many_33 : decode cX5_many 33 = .ok (.arraylength, 1) := dk_190 (dk_at dksX5_many_1 10 rfl rfl)
theorem dX5_many_34 : decode cX5_many 34 = .ok (.goto 30, 3) := dk_167 0 30 (dk_at dksX5_many_1 11 rfl rfl)
theorem dX5_many_37 : decode cX5_many 37 = .ok (.aload_n 0, 1) := dk_42 (dk_at dksX5_many_1 14 rfl rfl)
theorem dX5_many_38 : decode cX5_many 38 = .ok (.getfield 13, 3) := dk_180 0 13 (dk_at dksX5_many_1 15 rfl rfl)
theorem dX5_many_41 : decode cX5_many 41 = .ok (.iconst 2, 1) := dk_5 (dk_at dksX5_many_1 18 rfl rfl)
theorem dX5_many_42 : decode cX5_many 42 = .ok (.if_icmp .ne 14, 3) := dk_160 0 14 (dk_at dksX5_many_1 19 rfl rfl)
theorem dX5_many_45 : decode cX5_many 45 = .ok (.aload_n 0, 1) := dk_42 (dk_at dksX5_many_1 22 rfl rfl)
theorem dX5_many_46 : decode cX5_many 46 = .ok (.getfield 7, 3) := dk_180 0 7 (dk_at dksX5_many_2 0 rfl rfl)
theorem dX5_many_49 : decode cX5_many 49 = .ok (.checkcast 21, 3) := dk_192 0 21 (dk_at dksX5_many_2 3 rfl rfl)
theorem dX5_many_52 : decode cX5_many 52 = .ok (.arraylength, 1) := dk_190 (dk_at dksX5_many_2 6 rfl rfl)
theorem dX5_many_53 : decode cX5_many 53 = .ok (.goto 11, 3) := dk_167 0 11 (dk_at dksX5_many_2 7 rfl rfl)
theorem dX5_many_56 : decode cX5_many 56 = .ok (.aload_n 0, 1) := dk_42 (dk_at dksX5_many_2 10 rfl rfl)
theorem dX5_many_57 : decode cX5_many 57 = .ok (.getfield 7, 3) := dk_180 0 7 (dk_at dksX5_many_2 11 rfl rfl)
theorem dX5_many_60 : decode cX5_many 60 = .ok (.checkcast 23, 3) := dk_192 0 23 (dk_at dksX5_many_2 14 rfl rfl)
theorem dX5_many_63 : decode cX5_many 63 = .ok (.arraylength, 1) := dk_190 (dk_at dksX5_many_2 17 rfl rfl)
theorem dX5_many_64 : decode cX5_many 64 = .ok (.ireturn, 1) := dk_172 (dk_at dksX5_many_2 18 rfl rfl)
theorem q124 : (Jvm.Cond.initialized "TwoSeek$Tray") ∈ lw_all := lw_g (lw_at lw_m1 9 rfl) rfl
theorem q360 : (Jvm.Cond.instantiable "TwoSeek$Tray" (2 : Nat)) ∈ lw_all := lw_g (lw_at lw_m2 5 rfl) rfl
theorem q362 : (Jvm.Cond.instanceMethod ({ cls := "TwoSeek$Tray", name := "<init>", desc := "()V" } : Jvm.MethodName)) ∈ lw_all := lw_g (lw_at lw_m2 7 rfl) rfl
theorem q363 : (Jvm.Cond.code ({ cls := "TwoSeek$Tray", name := "<init>", desc := "()V" } : Jvm.MethodName) prog_10_method_1_code (1 : Nat) (Option.none : Option Jvm.ClassFile.FieldType)) ∈ lw_all := lw_g (lw_at lw_m2 8 rfl) rfl
theorem q364 : (Jvm.Cond.methodLink "TwoSeek$Tray" (1 : Nat) ({ cls := "java/lang/Object", name := "<init>", desc := "()V" } : Jvm.MethodName)) ∈ lw_all := lw_g (lw_at lw_m2 9 rfl) rfl
theorem q365 : (Jvm.Cond.fieldLink "TwoSeek$Tray" (7 : Nat) "TwoSeek$Tray" "row" "Ljava/lang/Object;") ∈ lw_all := lw_g (lw_at lw_m2 10 rfl) rfl
theorem q367 : (Jvm.Cond.fieldLink "TwoSeek$Tray" (13 : Nat) "TwoSeek$Tray" "sort" "I") ∈ lw_all := lw_g (lw_at lw_m2 12 rfl) rfl
theorem q369 : (Jvm.Cond.lays "TwoSeek$Tray" "TwoSeek$Tray" "row" "Ljava/lang/Object;") ∈ lw_all := lw_g (lw_at lw_m2 14 rfl) rfl
theorem q370 : (Jvm.Cond.soleField "TwoSeek$Tray" "row") ∈ lw_all := lw_g (lw_at lw_m2 15 rfl) rfl
theorem q371 : (Jvm.Cond.lays "TwoSeek$Tray" "TwoSeek$Tray" "sort" "I") ∈ lw_all := lw_g (lw_at lw_m2 16 rfl) rfl
theorem q372 : (Jvm.Cond.soleField "TwoSeek$Tray" "sort") ∈ lw_all := lw_g (lw_at lw_m2 17 rfl) rfl
theorem q373 : (Jvm.Cond.superclass "TwoSeek$Tray" "java/lang/Object") ∈ lw_all := lw_g (lw_at lw_m2 18 rfl) rfl
theorem q572 : (Jvm.Cond.instanceMethod ({ cls := "TwoSeek$Tray", name := "make", desc := "(II)V" } : Jvm.MethodName)) ∈ lw_all := lw_g (lw_at lw_m2 217 rfl) rfl
theorem q573 : (Jvm.Cond.selects "TwoSeek$Tray" ({ cls := "TwoSeek$Tray", name := "make", desc := "(II)V" } : Jvm.MethodName) ({ cls := "TwoSeek$Tray", name := "make", desc := "(II)V" } : Jvm.MethodName)) ∈ lw_all := lw_g (lw_at lw_m2 218 rfl) rfl
theorem q574 : (Jvm.Cond.code ({ cls := "TwoSeek$Tray", name := "make", desc := "(II)V" } : Jvm.MethodName) prog_10_method_2_code (4 : Nat) (Option.none : Option Jvm.ClassFile.FieldType)) ∈ lw_all := lw_g (lw_at lw_m2 219 rfl) rfl
theorem q625 : (Jvm.Cond.instanceMethod ({ cls := "TwoSeek$Tray", name := "set", desc := "(IJ)V" } : Jvm.MethodName)) ∈ lw_all := lw_g (lw_at lw_m3 30 rfl) rfl
theorem q626 : (Jvm.Cond.selects "TwoSeek$Tray" ({ cls := "TwoSeek$Tray", name := "set", desc := "(IJ)V" } : Jvm.MethodName) ({ cls := "TwoSeek$Tray", name := "set", desc := "(IJ)V" } : Jvm.MethodName)) ∈ lw_all := lw_g (lw_at lw_m3 31 rfl) rfl
theorem q627 : (Jvm.Cond.code ({ cls := "TwoSeek$Tray", name := "set", desc := "(IJ)V" } : Jvm.MethodName) prog_10_method_5_code (4 : Nat) (Option.none : Option Jvm.ClassFile.FieldType)) ∈ lw_all := lw_g (lw_at lw_m3 32 rfl) rfl
theorem q628 : (Jvm.Cond.classLink "TwoSeek$Tray" (17 : Nat) "[B") ∈ lw_all := lw_g (lw_at lw_m3 33 rfl) rfl
theorem q629 : (Jvm.Cond.classLink "TwoSeek$Tray" (19 : Nat) "[S") ∈ lw_all := lw_g (lw_at lw_m3 34 rfl) rfl
theorem q630 : (Jvm.Cond.classLink "TwoSeek$Tray" (21 : Nat) "[I") ∈ lw_all := lw_g (lw_at lw_m3 35 rfl) rfl
theorem q631 : (Jvm.Cond.classLink "TwoSeek$Tray" (23 : Nat) "[J") ∈ lw_all := lw_g (lw_at lw_m3 36 rfl) rfl
theorem q641 : (Jvm.Cond.instanceMethod ({ cls := "TwoSeek$Tray", name := "get", desc := "(I)J" } : Jvm.MethodName)) ∈ lw_all := lw_g (lw_at lw_m3 46 rfl) rfl
theorem q642 : (Jvm.Cond.selects "TwoSeek$Tray" ({ cls := "TwoSeek$Tray", name := "get", desc := "(I)J" } : Jvm.MethodName) ({ cls := "TwoSeek$Tray", name := "get", desc := "(I)J" } : Jvm.MethodName)) ∈ lw_all := lw_g (lw_at lw_m3 47 rfl) rfl
theorem q643 : (Jvm.Cond.code ({ cls := "TwoSeek$Tray", name := "get", desc := "(I)J" } : Jvm.MethodName) prog_10_method_4_code (2 : Nat) (Option.some Jvm.ClassFile.FieldType.long)) ∈ lw_all := lw_g (lw_at lw_m3 48 rfl) rfl
theorem q906 : (Jvm.Cond.instanceMethod ({ cls := "TwoSeek$Tray", name := "many", desc := "()I" } : Jvm.MethodName)) ∈ lw_all := lw_g (lw_at lw_m4 71 rfl) rfl
theorem q907 : (Jvm.Cond.selects "TwoSeek$Tray" ({ cls := "TwoSeek$Tray", name := "many", desc := "()I" } : Jvm.MethodName) ({ cls := "TwoSeek$Tray", name := "many", desc := "()I" } : Jvm.MethodName)) ∈ lw_all := lw_g (lw_at lw_m4 72 rfl) rfl
theorem q908 : (Jvm.Cond.code ({ cls := "TwoSeek$Tray", name := "many", desc := "()I" } : Jvm.MethodName) prog_10_method_3_code (1 : Nat) (Option.some Jvm.ClassFile.FieldType.int)) ∈ lw_all := lw_g (lw_at lw_m4 73 rfl) rfl
theorem in_X5 : ∀ w ∈ wsX50, w ∈ lw_all := lw_in wsX50 [369, 371] (by decide +kernel) (by decide +kernel)

/-! java/lang/NegativeArraySizeException -/
set_option maxRecDepth 100000
def RJ3 : String := "java/lang/NegativeArraySizeException"
def TJ3 : u_T := fun k => match k with
  | 0 => ("java/lang/Throwable", "backtrace", "Ljava/lang/Object;", false)
  | 1 => ("java/lang/Throwable", "detailMessage", "Ljava/lang/String;", false)
  | 2 => ("java/lang/Throwable", "cause", "Ljava/lang/Throwable;", false)
  | 3 => ("java/lang/Throwable", "stackTrace", "[Ljava/lang/StackTraceElement;", false)
  | 4 => ("java/lang/Throwable", "depth", "I", false)
  | _ => ("java/lang/Throwable", "suppressedExceptions", "Ljava/util/List;", false)
def tyJ3 : Nat → FieldType := fun k => match k with
  | 0 => .object "java/lang/Object"
  | 1 => .object "java/lang/String"
  | 2 => .object "java/lang/Throwable"
  | 3 => .array (.object "java/lang/StackTraceElement")
  | 4 => .int
  | _ => .object "java/util/List"
abbrev wsJ30 : List Cond := u_ws RJ3 TJ3 6
theorem nmJ3 : ∀ a, a < 6 → ∀ b, b < 6 → a ≠ b → (TJ3 a).2.1 ≠ (TJ3 b).2.1 := by decide +kernel
theorem tyJ3_ok : ∀ k, k < 6 → parseFieldDescriptor (TJ3 k).2.2.1 = some (tyJ3 k) := by decide +kernel
abbrev cJ3_init : ByteArray := prog_20_method_2_code
def yJ3_init : MethodName := ⟨RJ3, "<init>", "(Ljava/lang/String;)V"⟩
def dkwJ3_init_0 : List UInt8 := [42, 43, 183, 0, 7, 177]
abbrev dktJ3_init_0 : List UInt8 := dkwJ3_init_0 ++ []
theorem dksJ3_init_0 : cJ3_init.data.toList.drop 0 = dktJ3_init_0 := by decide +kernel
theorem dJ3_init_0 : decode cJ3_init 0 = .ok (.aload_n 0, 1) := dk_42 (dk_at dksJ3_init_0 0 rfl rfl)
theorem dJ3_init_1 : decode cJ3_init 1 = .ok (.aload_n 1, 1) := dk_43 (dk_at dksJ3_init_0 1 rfl rfl)
theorem dJ3_init_2 : decode cJ3_init 2 = .ok (.invokespecial 7, 3) := dk_183 0 7 (dk_at dksJ3_init_0 2 rfl rfl)
theorem dJ3_init_5 : decode cJ3_init 5 = .ok (.return_, 1) := dk_177 (dk_at dksJ3_init_0 5 rfl rfl)
theorem q126 : (Jvm.Cond.initialized "java/lang/NegativeArraySizeException") ∈ lw_all := lw_g (lw_at lw_m1 11 rfl) rfl
theorem q186 : (Jvm.Cond.selects "java/lang/NegativeArraySizeException" ({ cls := "java/lang/Throwable", name := "fillInStackTrace", desc := "()Ljava/lang/Throwable;" } : Jvm.MethodName) ({ cls := "java/lang/Throwable", name := "fillInStackTrace", desc := "()Ljava/lang/Throwable;" } : Jvm.MethodName)) ∈ lw_all := lw_g (lw_at lw_m1 71 rfl) rfl
theorem q538 : (Jvm.Cond.instantiable "java/lang/NegativeArraySizeException" (6 : Nat)) ∈ lw_all := lw_g (lw_at lw_m2 183 rfl) rfl
theorem q539 : (Jvm.Cond.instanceMethod ({ cls := "java/lang/NegativeArraySizeException", name := "<init>", desc := "(Ljava/lang/String;)V" } : Jvm.MethodName)) ∈ lw_all := lw_g (lw_at lw_m2 184 rfl) rfl
theorem q540 : (Jvm.Cond.code ({ cls := "java/lang/NegativeArraySizeException", name := "<init>", desc := "(Ljava/lang/String;)V" } : Jvm.MethodName) prog_20_method_2_code (2 : Nat) (Option.none : Option Jvm.ClassFile.FieldType)) ∈ lw_all := lw_g (lw_at lw_m2 185 rfl) rfl
theorem q541 : (Jvm.Cond.methodLink "java/lang/NegativeArraySizeException" (7 : Nat) ({ cls := "java/lang/RuntimeException", name := "<init>", desc := "(Ljava/lang/String;)V" } : Jvm.MethodName)) ∈ lw_all := lw_g (lw_at lw_m2 186 rfl) rfl
theorem q550 : (Jvm.Cond.lays "java/lang/NegativeArraySizeException" "java/lang/Throwable" "backtrace" "Ljava/lang/Object;") ∈ lw_all := lw_g (lw_at lw_m2 195 rfl) rfl
theorem q551 : (Jvm.Cond.lays "java/lang/NegativeArraySizeException" "java/lang/Throwable" "detailMessage" "Ljava/lang/String;") ∈ lw_all := lw_g (lw_at lw_m2 196 rfl) rfl
theorem q552 : (Jvm.Cond.lays "java/lang/NegativeArraySizeException" "java/lang/Throwable" "cause" "Ljava/lang/Throwable;") ∈ lw_all := lw_g (lw_at lw_m2 197 rfl) rfl
theorem q553 : (Jvm.Cond.lays "java/lang/NegativeArraySizeException" "java/lang/Throwable" "stackTrace" "[Ljava/lang/StackTraceElement;") ∈ lw_all := lw_g (lw_at lw_m2 198 rfl) rfl
theorem q554 : (Jvm.Cond.lays "java/lang/NegativeArraySizeException" "java/lang/Throwable" "depth" "I") ∈ lw_all := lw_g (lw_at lw_m2 199 rfl) rfl
theorem q555 : (Jvm.Cond.lays "java/lang/NegativeArraySizeException" "java/lang/Throwable" "suppressedExceptions" "Ljava/util/List;") ∈ lw_all := lw_g (lw_at lw_m2 200 rfl) rfl
theorem q556 : (Jvm.Cond.superclass "java/lang/NegativeArraySizeException" "java/lang/RuntimeException") ∈ lw_all := lw_g (lw_at lw_m2 201 rfl) rfl
theorem q557 : (Jvm.Cond.castable "java/lang/NegativeArraySizeException" "java/lang/NegativeArraySizeException") ∈ lw_tbl := lw_at lw_m2 202 rfl
theorem q558 : (Jvm.Cond.selects "java/lang/NegativeArraySizeException" ({ cls := "java/lang/Throwable", name := "fillInStackTrace", desc := "(I)Ljava/lang/Throwable;" } : Jvm.MethodName) ({ cls := "java/lang/Throwable", name := "fillInStackTrace", desc := "(I)Ljava/lang/Throwable;" } : Jvm.MethodName)) ∈ lw_all := lw_g (lw_at lw_m2 203 rfl) rfl
theorem in_J3 : ∀ w ∈ wsJ30, w ∈ lw_all := lw_in wsJ30 [550, 551, 552, 553, 554, 555] (by decide +kernel) (by decide +kernel)

/-! java/lang/String -/
set_option maxRecDepth 100000
def RJ4 : String := "java/lang/String"
def TJ4 : u_T := fun k => match k with
  | 0 => ("java/lang/String", "value", "[B", true)
  | _ => ("java/lang/String", "coder", "B", true)
def tyJ4 : Nat → FieldType := fun k => match k with
  | 0 => .array .byte
  | _ => .byte
abbrev wsJ40 : List Cond := u_ws RJ4 TJ4 2
theorem nmJ4 : ∀ a, a < 2 → ∀ b, b < 2 → a ≠ b → (TJ4 a).2.1 ≠ (TJ4 b).2.1 := by decide +kernel
theorem tyJ4_ok : ∀ k, k < 2 → parseFieldDescriptor (TJ4 k).2.2.1 = some (tyJ4 k) := by decide +kernel
abbrev cJ4_length : ByteArray := prog_23_method_54_code
def yJ4_length : MethodName := ⟨RJ4, "length", "()I"⟩
def dkwJ4_length_0 : List UInt8 := [42, 180, 0, 9, 190, 42, 182, 1, 79, 122, 172]
abbrev dktJ4_length_0 : List UInt8 := dkwJ4_length_0 ++ []
theorem dksJ4_length_0 : cJ4_length.data.toList.drop 0 = dktJ4_length_0 := by decide +kernel
theorem dJ4_length_0 : decode cJ4_length 0 = .ok (.aload_n 0, 1) := dk_42 (dk_at dksJ4_length_0 0 rfl rfl)
theorem dJ4_length_1 : decode cJ4_length 1 = .ok (.getfield 9, 3) := dk_180 0 9 (dk_at dksJ4_length_0 1 rfl rfl)
theorem dJ4_length_4 : decode cJ4_length 4 = .ok (.arraylength, 1) := dk_190 (dk_at dksJ4_length_0 4 rfl rfl)
theorem dJ4_length_5 : decode cJ4_length 5 = .ok (.aload_n 0, 1) := dk_42 (dk_at dksJ4_length_0 5 rfl rfl)
theorem dJ4_length_6 : decode cJ4_length 6 = .ok (.invokevirtual 335, 3) := dk_182 1 79 (dk_at dksJ4_length_0 6 rfl rfl)
theorem dJ4_length_9 : decode cJ4_length 9 = .ok (.ishr, 1) := dk_122 (dk_at dksJ4_length_0 9 rfl rfl)
theorem dJ4_length_10 : decode cJ4_length 10 = .ok (.ireturn, 1) := dk_172 (dk_at dksJ4_length_0 10 rfl rfl)
abbrev cJ4_coder : ByteArray := prog_23_method_152_code
def yJ4_coder : MethodName := ⟨RJ4, "coder", "()B"⟩
def dkwJ4_coder_0 : List UInt8 := [178, 0, 38, 153, 0, 10, 42, 180, 0, 15, 167, 0, 4, 4, 172]
abbrev dktJ4_coder_0 : List UInt8 := dkwJ4_coder_0 ++ []
theorem dksJ4_coder_0 : cJ4_coder.data.toList.drop 0 = dktJ4_coder_0 := by decide +kernel
theorem dJ4_coder_0 : decode cJ4_coder 0 = .ok (.getstatic 38, 3) := dk_178 0 38 (dk_at dksJ4_coder_0 0 rfl rfl)
theorem dJ4_coder_3 : decode cJ4_coder 3 = .ok (.ifCond .eq 10, 3) := dk_153 0 10 (dk_at dksJ4_coder_0 3 rfl rfl)
theorem dJ4_coder_6 : decode cJ4_coder 6 = .ok (.aload_n 0, 1) := dk_42 (dk_at dksJ4_coder_0 6 rfl rfl)
theorem dJ4_coder_7 : decode cJ4_coder 7 = .ok (.getfield 15, 3) := dk_180 0 15 (dk_at dksJ4_coder_0 7 rfl rfl)
theorem dJ4_coder_10 : decode cJ4_coder 10 = .ok (.goto 4, 3) := dk_167 0 4 (dk_at dksJ4_coder_0 10 rfl rfl)
theorem dJ4_coder_13 : decode cJ4_coder 13 = .ok (.iconst 1, 1) := dk_4 (dk_at dksJ4_coder_0 13 rfl rfl)
theorem dJ4_coder_14 : decode cJ4_coder 14 = .ok (.ireturn, 1) := dk_172 (dk_at dksJ4_coder_0 14 rfl rfl)
abbrev cJ4_charAt : ByteArray := prog_23_method_56_code
def yJ4_charAt : MethodName := ⟨RJ4, "charAt", "(I)C"⟩
def dkwJ4_charAt_1 : List UInt8 := [172]
abbrev dktJ4_charAt_1 : List UInt8 := dkwJ4_charAt_1 ++ []
def dkwJ4_charAt_0 : List UInt8 := [42, 182, 1, 236, 153, 0, 12, 42, 180, 0, 9, 27, 184, 1, 239, 172, 42, 180, 0, 9, 27, 184, 1, 242]
abbrev dktJ4_charAt_0 : List UInt8 := dkwJ4_charAt_0 ++ dktJ4_charAt_1
theorem dksJ4_charAt_0 : cJ4_charAt.data.toList.drop 0 = dktJ4_charAt_0 := by decide +kernel
theorem dksJ4_charAt_1 : cJ4_charAt.data.toList.drop 24 = dktJ4_charAt_1 := dk_seg dksJ4_charAt_0 24 rfl rfl
theorem dJ4_charAt_0 : decode cJ4_charAt 0 = .ok (.aload_n 0, 1) := dk_42 (dk_at dksJ4_charAt_0 0 rfl rfl)
theorem dJ4_charAt_1 : decode cJ4_charAt 1 = .ok (.invokevirtual 492, 3) := dk_182 1 236 (dk_at dksJ4_charAt_0 1 rfl rfl)
theorem dJ4_charAt_4 : decode cJ4_charAt 4 = .ok (.ifCond .eq 12, 3) := dk_153 0 12 (dk_at dksJ4_charAt_0 4 rfl rfl)
theorem dJ4_charAt_7 : decode cJ4_charAt 7 = .ok (.aload_n 0, 1) := dk_42 (dk_at dksJ4_charAt_0 7 rfl rfl)
theorem dJ4_charAt_8 : decode cJ4_charAt 8 = .ok (.getfield 9, 3) := dk_180 0 9 (dk_at dksJ4_charAt_0 8 rfl rfl)
theorem dJ4_charAt_11 : decode cJ4_charAt 11 = .ok (.iload_n 1, 1) := dk_27 (dk_at dksJ4_charAt_0 11 rfl rfl)
theorem dJ4_charAt_12 : decode cJ4_charAt 12 = .ok (.invokestatic 495, 3) := dk_184 1 239 (dk_at dksJ4_charAt_0 12 rfl rfl)
theorem dJ4_charAt_15 : decode cJ4_charAt 15 = .ok (.ireturn, 1) := dk_172 (dk_at dksJ4_charAt_0 15 rfl rfl)
theorem dJ4_charAt_16 : decode cJ4_charAt 16 = .ok (.aload_n 0, 1) := dk_42 (dk_at dksJ4_charAt_0 16 rfl rfl)
theorem dJ4_charAt_17 : decode cJ4_charAt 17 = .ok (.getfield 9, 3) := dk_180 0 9 (dk_at dksJ4_charAt_0 17 rfl rfl)
theorem dJ4_charAt_20 : decode cJ4_charAt 20 = .ok (.iload_n 1, 1) := dk_27 (dk_at dksJ4_charAt_0 20 rfl rfl)
theorem dJ4_charAt_21 : decode cJ4_charAt 21 = .ok (.invokestatic 498, 3) := dk_184 1 242 (dk_at dksJ4_charAt_0 21 rfl rfl)
theorem dJ4_charAt_24 : decode cJ4_charAt 24 = .ok (.ireturn, 1) := dk_172 (dk_at dksJ4_charAt_1 0 rfl rfl)
abbrev cJ4_isLatin1 : ByteArray := prog_23_method_154_code
def yJ4_isLatin1 : MethodName := ⟨RJ4, "isLatin1", "()Z"⟩
def dkwJ4_isLatin1_0 : List UInt8 := [178, 0, 38, 153, 0, 14, 42, 180, 0, 15, 154, 0, 7, 4, 167, 0, 4, 3, 172]
abbrev dktJ4_isLatin1_0 : List UInt8 := dkwJ4_isLatin1_0 ++ []
theorem dksJ4_isLatin1_0 : cJ4_isLatin1.data.toList.drop 0 = dktJ4_isLatin1_0 := by decide +kernel
theorem dJ4_isLatin1_0 : decode cJ4_isLatin1 0 = .ok (.getstatic 38, 3) := dk_178 0 38 (dk_at dksJ4_isLatin1_0 0 rfl rfl)
theorem dJ4_isLatin1_3 : decode cJ4_isLatin1 3 = .ok (.ifCond .eq 14, 3) := dk_153 0 14 (dk_at dksJ4_isLatin1_0 3 rfl rfl)
theorem dJ4_isLatin1_6 : decode cJ4_isLatin1 6 = .ok (.aload_n 0, 1) := dk_42 (dk_at dksJ4_isLatin1_0 6 rfl rfl)
theorem dJ4_isLatin1_7 : decode cJ4_isLatin1 7 = .ok (.getfield 15, 3) := dk_180 0 15 (dk_at dksJ4_isLatin1_0 7 rfl rfl)
theorem dJ4_isLatin1_10 : decode cJ4_isLatin1 10 = .ok (.ifCond .ne 7, 3) := dk_154 0 7 (dk_at dksJ4_isLatin1_0 10 rfl rfl)
theorem dJ4_isLatin1_13 : decode cJ4_isLatin1 13 = .ok (.iconst 1, 1) := dk_4 (dk_at dksJ4_isLatin1_0 13 rfl rfl)
theorem dJ4_isLatin1_14 : decode cJ4_isLatin1 14 = .ok (.goto 4, 3) := dk_167 0 4 (dk_at dksJ4_isLatin1_0 14 rfl rfl)
theorem dJ4_isLatin1_17 : decode cJ4_isLatin1 17 = .ok (.iconst 0, 1) := dk_3 (dk_at dksJ4_isLatin1_0 17 rfl rfl)
theorem dJ4_isLatin1_18 : decode cJ4_isLatin1 18 = .ok (.ireturn, 1) := dk_172 (dk_at dksJ4_isLatin1_0 18 rfl rfl)
abbrev cJ4_checkIndex : ByteArray := prog_23_method_155_code
def yJ4_checkIndex : MethodName := ⟨RJ4, "checkIndex", "(II)V"⟩
def dkwJ4_checkIndex_0 : List UInt8 := [26, 27, 178, 4, 29, 184, 4, 35, 87, 177]
abbrev dktJ4_checkIndex_0 : List UInt8 := dkwJ4_checkIndex_0 ++ []
theorem dksJ4_checkIndex_0 : cJ4_checkIndex.data.toList.drop 0 = dktJ4_checkIndex_0 := by decide +kernel
theorem dJ4_checkIndex_0 : decode cJ4_checkIndex 0 = .ok (.iload_n 0, 1) := dk_26 (dk_at dksJ4_checkIndex_0 0 rfl rfl)
theorem dJ4_checkIndex_1 : decode cJ4_checkIndex 1 = .ok (.iload_n 1, 1) := dk_27 (dk_at dksJ4_checkIndex_0 1 rfl rfl)
theorem dJ4_checkIndex_2 : decode cJ4_checkIndex 2 = .ok (.getstatic 1053, 3) := dk_178 4 29 (dk_at dksJ4_checkIndex_0 2 rfl rfl)
theorem dJ4_checkIndex_5 : decode cJ4_checkIndex 5 = .ok (.invokestatic 1059, 3) := dk_184 4 35 (dk_at dksJ4_checkIndex_0 5 rfl rfl)
theorem dJ4_checkIndex_8 : decode cJ4_checkIndex 8 = .ok (.pop, 1) := dk_87 (dk_at dksJ4_checkIndex_0 8 rfl rfl)
theorem dJ4_checkIndex_9 : decode cJ4_checkIndex 9 = .ok (.return_, 1) := dk_177 (dk_at dksJ4_checkIndex_0 9 rfl rfl)
theorem q127 : (Jvm.Cond.initialized "java/lang/String") ∈ lw_all := lw_g (lw_at lw_m1 12 rfl) rfl
theorem q559 : (Jvm.Cond.instantiable "java/lang/String" (4 : Nat)) ∈ lw_all := lw_g (lw_at lw_m2 204 rfl) rfl
theorem q560 : (Jvm.Cond.laysFinal "java/lang/String" "java/lang/String" "value" "[B") ∈ lw_all := lw_g (lw_at lw_m2 205 rfl) rfl
theorem q561 : (Jvm.Cond.soleField "java/lang/String" "value") ∈ lw_all := lw_g (lw_at lw_m2 206 rfl) rfl
theorem q562 : (Jvm.Cond.laysFinal "java/lang/String" "java/lang/String" "coder" "B") ∈ lw_all := lw_g (lw_at lw_m2 207 rfl) rfl
theorem q563 : (Jvm.Cond.soleField "java/lang/String" "coder") ∈ lw_all := lw_g (lw_at lw_m2 208 rfl) rfl
theorem q698 : (Jvm.Cond.instanceMethod ({ cls := "java/lang/String", name := "length", desc := "()I" } : Jvm.MethodName)) ∈ lw_all := lw_g (lw_at lw_m3 103 rfl) rfl
theorem q699 : (Jvm.Cond.selects "java/lang/String" ({ cls := "java/lang/String", name := "length", desc := "()I" } : Jvm.MethodName) ({ cls := "java/lang/String", name := "length", desc := "()I" } : Jvm.MethodName)) ∈ lw_all := lw_g (lw_at lw_m3 104 rfl) rfl
theorem q700 : (Jvm.Cond.code ({ cls := "java/lang/String", name := "length", desc := "()I" } : Jvm.MethodName) prog_23_method_54_code (1 : Nat) (Option.some Jvm.ClassFile.FieldType.int)) ∈ lw_all := lw_g (lw_at lw_m3 105 rfl) rfl
theorem q701 : (Jvm.Cond.methodLink "java/lang/String" (335 : Nat) ({ cls := "java/lang/String", name := "coder", desc := "()B" } : Jvm.MethodName)) ∈ lw_all := lw_g (lw_at lw_m3 106 rfl) rfl
theorem q702 : (Jvm.Cond.instanceMethod ({ cls := "java/lang/String", name := "coder", desc := "()B" } : Jvm.MethodName)) ∈ lw_all := lw_g (lw_at lw_m3 107 rfl) rfl
theorem q703 : (Jvm.Cond.selects "java/lang/String" ({ cls := "java/lang/String", name := "coder", desc := "()B" } : Jvm.MethodName) ({ cls := "java/lang/String", name := "coder", desc := "()B" } : Jvm.MethodName)) ∈ lw_all := lw_g (lw_at lw_m3 108 rfl) rfl
theorem q704 : (Jvm.Cond.code ({ cls := "java/lang/String", name := "coder", desc := "()B" } : Jvm.MethodName) prog_23_method_152_code (1 : Nat) (Option.some Jvm.ClassFile.FieldType.byte)) ∈ lw_all := lw_g (lw_at lw_m3 109 rfl) rfl
theorem q705 : (Jvm.Cond.fieldLink "java/lang/String" (38 : Nat) "java/lang/String" "COMPACT_STRINGS" "Z") ∈ lw_all := lw_g (lw_at lw_m3 110 rfl) rfl
theorem q706 : (Jvm.Cond.laysStatic "java/lang/String" "COMPACT_STRINGS" "Z") ∈ lw_tbl := lw_at lw_m3 111 rfl
theorem q708 : (Jvm.Cond.instanceMethod ({ cls := "java/lang/String", name := "charAt", desc := "(I)C" } : Jvm.MethodName)) ∈ lw_all := lw_g (lw_at lw_m3 113 rfl) rfl
theorem q709 : (Jvm.Cond.selects "java/lang/String" ({ cls := "java/lang/String", name := "charAt", desc := "(I)C" } : Jvm.MethodName) ({ cls := "java/lang/String", name := "charAt", desc := "(I)C" } : Jvm.MethodName)) ∈ lw_all := lw_g (lw_at lw_m3 114 rfl) rfl
theorem q710 : (Jvm.Cond.code ({ cls := "java/lang/String", name := "charAt", desc := "(I)C" } : Jvm.MethodName) prog_23_method_56_code (2 : Nat) (Option.some Jvm.ClassFile.FieldType.char)) ∈ lw_all := lw_g (lw_at lw_m3 115 rfl) rfl
theorem q711 : (Jvm.Cond.methodLink "java/lang/String" (492 : Nat) ({ cls := "java/lang/String", name := "isLatin1", desc := "()Z" } : Jvm.MethodName)) ∈ lw_all := lw_g (lw_at lw_m3 116 rfl) rfl
theorem q712 : (Jvm.Cond.instanceMethod ({ cls := "java/lang/String", name := "isLatin1", desc := "()Z" } : Jvm.MethodName)) ∈ lw_all := lw_g (lw_at lw_m3 117 rfl) rfl
theorem q713 : (Jvm.Cond.selects "java/lang/String" ({ cls := "java/lang/String", name := "isLatin1", desc := "()Z" } : Jvm.MethodName) ({ cls := "java/lang/String", name := "isLatin1", desc := "()Z" } : Jvm.MethodName)) ∈ lw_all := lw_g (lw_at lw_m3 118 rfl) rfl
theorem q714 : (Jvm.Cond.code ({ cls := "java/lang/String", name := "isLatin1", desc := "()Z" } : Jvm.MethodName) prog_23_method_154_code (1 : Nat) (Option.some Jvm.ClassFile.FieldType.boolean)) ∈ lw_all := lw_g (lw_at lw_m3 119 rfl) rfl
theorem q715 : (Jvm.Cond.methodLink "java/lang/String" (495 : Nat) ({ cls := "java/lang/StringLatin1", name := "charAt", desc := "([BI)C" } : Jvm.MethodName)) ∈ lw_all := lw_g (lw_at lw_m3 120 rfl) rfl
theorem q719 : (Jvm.Cond.static ({ cls := "java/lang/String", name := "checkIndex", desc := "(II)V" } : Jvm.MethodName)) ∈ lw_all := lw_g (lw_at lw_m3 124 rfl) rfl
theorem q720 : (Jvm.Cond.code ({ cls := "java/lang/String", name := "checkIndex", desc := "(II)V" } : Jvm.MethodName) prog_23_method_155_code (2 : Nat) (Option.none : Option Jvm.ClassFile.FieldType)) ∈ lw_all := lw_g (lw_at lw_m3 125 rfl) rfl
theorem q721 : (Jvm.Cond.fieldLink "java/lang/String" (1053 : Nat) "jdk/internal/util/Preconditions" "SIOOBE_FORMATTER" "Ljava/util/function/BiFunction;") ∈ lw_all := lw_g (lw_at lw_m3 126 rfl) rfl
theorem q723 : (Jvm.Cond.methodLink "java/lang/String" (1059 : Nat) ({ cls := "jdk/internal/util/Preconditions", name := "checkIndex", desc := "(IILjava/util/function/BiFunction;)I" } : Jvm.MethodName)) ∈ lw_all := lw_g (lw_at lw_m3 128 rfl) rfl
theorem q726 : (Jvm.Cond.methodLink "java/lang/String" (498 : Nat) ({ cls := "java/lang/StringUTF16", name := "charAt", desc := "([BI)C" } : Jvm.MethodName)) ∈ lw_all := lw_g (lw_at lw_m3 131 rfl) rfl
theorem q1872 : (Jvm.Cond.fieldLink "java/lang/String" (9 : Nat) "java/lang/String" "value" "[B") ∈ lw_all := lw_g (lw_at lw_m8 77 rfl) rfl
theorem q1873 : (Jvm.Cond.fieldLink "java/lang/String" (15 : Nat) "java/lang/String" "coder" "B") ∈ lw_all := lw_g (lw_at lw_m8 78 rfl) rfl
theorem in_J4 : ∀ w ∈ wsJ40, w ∈ lw_all := lw_in wsJ40 [560, 562] (by decide +kernel) (by decide +kernel)

/-! java/lang/NullPointerException -/
set_option maxRecDepth 100000
def RJ5 : String := "java/lang/NullPointerException"
def TJ5 : u_T := fun k => match k with
  | 0 => ("java/lang/Throwable", "backtrace", "Ljava/lang/Object;", false)
  | 1 => ("java/lang/Throwable", "detailMessage", "Ljava/lang/String;", false)
  | 2 => ("java/lang/Throwable", "cause", "Ljava/lang/Throwable;", false)
  | 3 => ("java/lang/Throwable", "stackTrace", "[Ljava/lang/StackTraceElement;", false)
  | 4 => ("java/lang/Throwable", "depth", "I", false)
  | 5 => ("java/lang/Throwable", "suppressedExceptions", "Ljava/util/List;", false)
  | 6 => ("java/lang/NullPointerException", "extendedMessageState", "I", false)
  | _ => ("java/lang/NullPointerException", "extendedMessage", "Ljava/lang/String;", false)
def tyJ5 : Nat → FieldType := fun k => match k with
  | 0 => .object "java/lang/Object"
  | 1 => .object "java/lang/String"
  | 2 => .object "java/lang/Throwable"
  | 3 => .array (.object "java/lang/StackTraceElement")
  | 4 => .int
  | 5 => .object "java/util/List"
  | 6 => .int
  | _ => .object "java/lang/String"
abbrev wsJ50 : List Cond := u_ws RJ5 TJ5 8
theorem nmJ5 : ∀ a, a < 8 → ∀ b, b < 8 → a ≠ b → (TJ5 a).2.1 ≠ (TJ5 b).2.1 := by decide +kernel
theorem tyJ5_ok : ∀ k, k < 8 → parseFieldDescriptor (TJ5 k).2.2.1 = some (tyJ5 k) := by decide +kernel
abbrev cJ5_init : ByteArray := prog_21_method_1_code
def yJ5_init : MethodName := ⟨RJ5, "<init>", "()V"⟩
theorem dJ5_init_0 : decode cJ5_init 0 = .ok (.aload_n 0, 1) := by decide +kernel
theorem dJ5_init_1 : decode cJ5_init 1 = .ok (.invokespecial 1, 3) := by decide +kernel
theorem dJ5_init_4 : decode cJ5_init 4 = .ok (.return_, 1) := by decide +kernel
theorem q128 : (Jvm.Cond.initialized "java/lang/NullPointerException") ∈ lw_all := lw_g (lw_at lw_m1 13 rfl) rfl
theorem q187 : (Jvm.Cond.selects "java/lang/NullPointerException" ({ cls := "java/lang/Throwable", name := "fillInStackTrace", desc := "()Ljava/lang/Throwable;" } : Jvm.MethodName) ({ cls := "java/lang/NullPointerException", name := "fillInStackTrace", desc := "()Ljava/lang/Throwable;" } : Jvm.MethodName)) ∈ lw_all := lw_g (lw_at lw_m1 72 rfl) rfl
theorem q188 : (Jvm.Cond.instanceMethod ({ cls := "java/lang/NullPointerException", name := "fillInStackTrace", desc := "()Ljava/lang/Throwable;" } : Jvm.MethodName)) ∈ lw_all := lw_g (lw_at lw_m1 73 rfl) rfl
theorem q189 : (Jvm.Cond.codeSync ({ cls := "java/lang/NullPointerException", name := "fillInStackTrace", desc := "()Ljava/lang/Throwable;" } : Jvm.MethodName) prog_21_method_3_code (1 : Nat) (Option.some (Jvm.ClassFile.FieldType.object "java/lang/Throwable"))) ∈ lw_all := lw_g (lw_at lw_m1 74 rfl) rfl
theorem q190 : (Jvm.Cond.methodLink "java/lang/NullPointerException" (16 : Nat) ({ cls := "java/lang/NullPointerException", name := "getExtendedNPEMessage", desc := "()Ljava/lang/String;" } : Jvm.MethodName)) ∈ lw_all := lw_g (lw_at lw_m1 75 rfl) rfl
theorem q191 : (Jvm.Cond.privateMethod ({ cls := "java/lang/NullPointerException", name := "getExtendedNPEMessage", desc := "()Ljava/lang/String;" } : Jvm.MethodName)) ∈ lw_tbl := lw_at lw_m1 76 rfl
theorem q192 : (Jvm.Cond.instanceMethod ({ cls := "java/lang/NullPointerException", name := "getExtendedNPEMessage", desc := "()Ljava/lang/String;" } : Jvm.MethodName)) ∈ lw_all := lw_g (lw_at lw_m1 77 rfl) rfl
theorem q193 : (Jvm.Cond.instantiable "java/lang/NullPointerException" (8 : Nat)) ∈ lw_all := lw_g (lw_at lw_m1 78 rfl) rfl
theorem q194 : (Jvm.Cond.native ({ cls := "java/lang/NullPointerException", name := "getExtendedNPEMessage", desc := "()Ljava/lang/String;" } : Jvm.MethodName)) ∈ lw_all := lw_g (lw_at lw_m1 79 rfl) rfl
theorem q195 : (Jvm.Cond.methodLink "java/lang/NullPointerException" (24 : Nat) ({ cls := "java/lang/RuntimeException", name := "fillInStackTrace", desc := "()Ljava/lang/Throwable;" } : Jvm.MethodName)) ∈ lw_all := lw_g (lw_at lw_m1 80 rfl) rfl
theorem q198 : (Jvm.Cond.superclass "java/lang/NullPointerException" "java/lang/RuntimeException") ∈ lw_all := lw_g (lw_at lw_m1 83 rfl) rfl
theorem q581 : (Jvm.Cond.instanceMethod ({ cls := "java/lang/NullPointerException", name := "<init>", desc := "()V" } : Jvm.MethodName)) ∈ lw_all := lw_g (lw_at lw_m2 226 rfl) rfl
theorem q582 : (Jvm.Cond.code ({ cls := "java/lang/NullPointerException", name := "<init>", desc := "()V" } : Jvm.MethodName) prog_21_method_1_code (1 : Nat) (Option.none : Option Jvm.ClassFile.FieldType)) ∈ lw_all := lw_g (lw_at lw_m2 227 rfl) rfl
theorem q583 : (Jvm.Cond.methodLink "java/lang/NullPointerException" (1 : Nat) ({ cls := "java/lang/RuntimeException", name := "<init>", desc := "()V" } : Jvm.MethodName)) ∈ lw_all := lw_g (lw_at lw_m2 228 rfl) rfl
theorem q590 : (Jvm.Cond.fieldLink "java/lang/NullPointerException" (10 : Nat) "java/lang/NullPointerException" "extendedMessageState" "I") ∈ lw_all := lw_g (lw_at lw_m2 235 rfl) rfl
theorem q591 : (Jvm.Cond.fieldLink "java/lang/NullPointerException" (20 : Nat) "java/lang/NullPointerException" "extendedMessage" "Ljava/lang/String;") ∈ lw_all := lw_g (lw_at lw_m2 236 rfl) rfl
theorem q592 : (Jvm.Cond.lays "java/lang/NullPointerException" "java/lang/NullPointerException" "extendedMessageState" "I") ∈ lw_all := lw_g (lw_at lw_m2 237 rfl) rfl
theorem q593 : (Jvm.Cond.soleField "java/lang/NullPointerException" "extendedMessageState") ∈ lw_all := lw_g (lw_at lw_m2 238 rfl) rfl
theorem q594 : (Jvm.Cond.lays "java/lang/NullPointerException" "java/lang/NullPointerException" "extendedMessage" "Ljava/lang/String;") ∈ lw_all := lw_g (lw_at lw_m2 239 rfl) rfl
theorem q595 : (Jvm.Cond.soleField "java/lang/NullPointerException" "extendedMessage") ∈ lw_all := lw_g (lw_at lw_m3 0 rfl) rfl
theorem q596 : (Jvm.Cond.lays "java/lang/NullPointerException" "java/lang/Throwable" "backtrace" "Ljava/lang/Object;") ∈ lw_all := lw_g (lw_at lw_m3 1 rfl) rfl
theorem q597 : (Jvm.Cond.lays "java/lang/NullPointerException" "java/lang/Throwable" "detailMessage" "Ljava/lang/String;") ∈ lw_all := lw_g (lw_at lw_m3 2 rfl) rfl
theorem q598 : (Jvm.Cond.lays "java/lang/NullPointerException" "java/lang/Throwable" "cause" "Ljava/lang/Throwable;") ∈ lw_all := lw_g (lw_at lw_m3 3 rfl) rfl
theorem q599 : (Jvm.Cond.lays "java/lang/NullPointerException" "java/lang/Throwable" "stackTrace" "[Ljava/lang/StackTraceElement;") ∈ lw_all := lw_g (lw_at lw_m3 4 rfl) rfl
theorem q600 : (Jvm.Cond.lays "java/lang/NullPointerException" "java/lang/Throwable" "depth" "I") ∈ lw_all := lw_g (lw_at lw_m3 5 rfl) rfl
theorem q601 : (Jvm.Cond.lays "java/lang/NullPointerException" "java/lang/Throwable" "suppressedExceptions" "Ljava/util/List;") ∈ lw_all := lw_g (lw_at lw_m3 6 rfl) rfl
theorem q602 : (Jvm.Cond.castable "java/lang/NullPointerException" "java/lang/NullPointerException") ∈ lw_tbl := lw_at lw_m3 7 rfl
theorem q603 : (Jvm.Cond.selects "java/lang/NullPointerException" ({ cls := "java/lang/Throwable", name := "fillInStackTrace", desc := "(I)Ljava/lang/Throwable;" } : Jvm.MethodName) ({ cls := "java/lang/Throwable", name := "fillInStackTrace", desc := "(I)Ljava/lang/Throwable;" } : Jvm.MethodName)) ∈ lw_all := lw_g (lw_at lw_m3 8 rfl) rfl
theorem in_J5 : ∀ w ∈ wsJ50, w ∈ lw_all := lw_in wsJ50 [596, 597, 598, 599, 600, 601, 592, 594] (by decide +kernel) (by decide +kernel)

/-! java/lang/IndexOutOfBoundsException -/
set_option maxRecDepth 100000
def RJ6 : String := "java/lang/IndexOutOfBoundsException"
abbrev cJ6_init : ByteArray := prog_18_method_2_code
def yJ6_init : MethodName := ⟨RJ6, "<init>", "(Ljava/lang/String;)V"⟩
def dkwJ6_init_0 : List UInt8 := [42, 43, 183, 0, 7, 177]
abbrev dktJ6_init_0 : List UInt8 := dkwJ6_init_0 ++ []
theorem dksJ6_init_0 : cJ6_init.data.toList.drop 0 = dktJ6_init_0 := by decide +kernel
theorem dJ6_init_0 : decode cJ6_init 0 = .ok (.aload_n 0, 1) := dk_42 (dk_at dksJ6_init_0 0 rfl rfl)
theorem dJ6_init_1 : decode cJ6_init 1 = .ok (.aload_n 1, 1) := dk_43 (dk_at dksJ6_init_0 1 rfl rfl)
theorem dJ6_init_2 : decode cJ6_init 2 = .ok (.invokespecial 7, 3) := dk_183 0 7 (dk_at dksJ6_init_0 2 rfl rfl)
theorem dJ6_init_5 : decode cJ6_init 5 = .ok (.return_, 1) := dk_177 (dk_at dksJ6_init_0 5 rfl rfl)
theorem q129 : (Jvm.Cond.initialized "java/lang/IndexOutOfBoundsException") ∈ lw_all := lw_g (lw_at lw_m1 14 rfl) rfl
theorem q610 : (Jvm.Cond.instanceMethod ({ cls := "java/lang/IndexOutOfBoundsException", name := "<init>", desc := "(Ljava/lang/String;)V" } : Jvm.MethodName)) ∈ lw_all := lw_g (lw_at lw_m3 15 rfl) rfl
theorem q611 : (Jvm.Cond.code ({ cls := "java/lang/IndexOutOfBoundsException", name := "<init>", desc := "(Ljava/lang/String;)V" } : Jvm.MethodName) prog_18_method_2_code (2 : Nat) (Option.none : Option Jvm.ClassFile.FieldType)) ∈ lw_all := lw_g (lw_at lw_m3 16 rfl) rfl
theorem q612 : (Jvm.Cond.methodLink "java/lang/IndexOutOfBoundsException" (7 : Nat) ({ cls := "java/lang/RuntimeException", name := "<init>", desc := "(Ljava/lang/String;)V" } : Jvm.MethodName)) ∈ lw_all := lw_g (lw_at lw_m3 17 rfl) rfl
theorem q621 : (Jvm.Cond.declares ({ cls := "java/lang/IndexOutOfBoundsException", name := "<init>", desc := "()V" } : Jvm.MethodName)) ∈ lw_tbl := lw_at lw_m3 26 rfl
theorem q622 : (Jvm.Cond.declares ({ cls := "java/lang/IndexOutOfBoundsException", name := "<init>", desc := "(Ljava/lang/String;)V" } : Jvm.MethodName)) ∈ lw_tbl := lw_at lw_m3 27 rfl

/-! java/lang/ArrayIndexOutOfBoundsException -/
set_option maxRecDepth 100000
def RJ7 : String := "java/lang/ArrayIndexOutOfBoundsException"
def TJ7 : u_T := fun k => match k with
  | 0 => ("java/lang/Throwable", "backtrace", "Ljava/lang/Object;", false)
  | 1 => ("java/lang/Throwable", "detailMessage", "Ljava/lang/String;", false)
  | 2 => ("java/lang/Throwable", "cause", "Ljava/lang/Throwable;", false)
  | 3 => ("java/lang/Throwable", "stackTrace", "[Ljava/lang/StackTraceElement;", false)
  | 4 => ("java/lang/Throwable", "depth", "I", false)
  | _ => ("java/lang/Throwable", "suppressedExceptions", "Ljava/util/List;", false)
def tyJ7 : Nat → FieldType := fun k => match k with
  | 0 => .object "java/lang/Object"
  | 1 => .object "java/lang/String"
  | 2 => .object "java/lang/Throwable"
  | 3 => .array (.object "java/lang/StackTraceElement")
  | 4 => .int
  | _ => .object "java/util/List"
abbrev wsJ70 : List Cond := u_ws RJ7 TJ7 6
theorem nmJ7 : ∀ a, a < 6 → ∀ b, b < 6 → a ≠ b → (TJ7 a).2.1 ≠ (TJ7 b).2.1 := by decide +kernel
theorem tyJ7_ok : ∀ k, k < 6 → parseFieldDescriptor (TJ7 k).2.2.1 = some (tyJ7 k) := by decide +kernel
abbrev cJ7_init : ByteArray := prog_16_method_2_code
def yJ7_init : MethodName := ⟨RJ7, "<init>", "(Ljava/lang/String;)V"⟩
def dkwJ7_init_0 : List UInt8 := [42, 43, 183, 0, 7, 177]
abbrev dktJ7_init_0 : List UInt8 := dkwJ7_init_0 ++ []
theorem dksJ7_init_0 : cJ7_init.data.toList.drop 0 = dktJ7_init_0 := by decide +kernel
theorem dJ7_init_0 : decode cJ7_init 0 = .ok (.aload_n 0, 1) := dk_42 (dk_at dksJ7_init_0 0 rfl rfl)
theorem dJ7_init_1 : decode cJ7_init 1 = .ok (.aload_n 1, 1) := dk_43 (dk_at dksJ7_init_0 1 rfl rfl)
theorem dJ7_init_2 : decode cJ7_init 2 = .ok (.invokespecial 7, 3) := dk_183 0 7 (dk_at dksJ7_init_0 2 rfl rfl)
theorem dJ7_init_5 : decode cJ7_init 5 = .ok (.return_, 1) := dk_177 (dk_at dksJ7_init_0 5 rfl rfl)
theorem q130 : (Jvm.Cond.initialized "java/lang/ArrayIndexOutOfBoundsException") ∈ lw_all := lw_g (lw_at lw_m1 15 rfl) rfl
theorem q185 : (Jvm.Cond.selects "java/lang/ArrayIndexOutOfBoundsException" ({ cls := "java/lang/Throwable", name := "fillInStackTrace", desc := "()Ljava/lang/Throwable;" } : Jvm.MethodName) ({ cls := "java/lang/Throwable", name := "fillInStackTrace", desc := "()Ljava/lang/Throwable;" } : Jvm.MethodName)) ∈ lw_all := lw_g (lw_at lw_m1 70 rfl) rfl
theorem q606 : (Jvm.Cond.instantiable "java/lang/ArrayIndexOutOfBoundsException" (6 : Nat)) ∈ lw_all := lw_g (lw_at lw_m3 11 rfl) rfl
theorem q607 : (Jvm.Cond.instanceMethod ({ cls := "java/lang/ArrayIndexOutOfBoundsException", name := "<init>", desc := "(Ljava/lang/String;)V" } : Jvm.MethodName)) ∈ lw_all := lw_g (lw_at lw_m3 12 rfl) rfl
theorem q608 : (Jvm.Cond.code ({ cls := "java/lang/ArrayIndexOutOfBoundsException", name := "<init>", desc := "(Ljava/lang/String;)V" } : Jvm.MethodName) prog_16_method_2_code (2 : Nat) (Option.none : Option Jvm.ClassFile.FieldType)) ∈ lw_all := lw_g (lw_at lw_m3 13 rfl) rfl
theorem q609 : (Jvm.Cond.methodLink "java/lang/ArrayIndexOutOfBoundsException" (7 : Nat) ({ cls := "java/lang/IndexOutOfBoundsException", name := "<init>", desc := "(Ljava/lang/String;)V" } : Jvm.MethodName)) ∈ lw_all := lw_g (lw_at lw_m3 14 rfl) rfl
theorem q613 : (Jvm.Cond.lays "java/lang/ArrayIndexOutOfBoundsException" "java/lang/Throwable" "backtrace" "Ljava/lang/Object;") ∈ lw_all := lw_g (lw_at lw_m3 18 rfl) rfl
theorem q614 : (Jvm.Cond.lays "java/lang/ArrayIndexOutOfBoundsException" "java/lang/Throwable" "detailMessage" "Ljava/lang/String;") ∈ lw_all := lw_g (lw_at lw_m3 19 rfl) rfl
theorem q615 : (Jvm.Cond.lays "java/lang/ArrayIndexOutOfBoundsException" "java/lang/Throwable" "cause" "Ljava/lang/Throwable;") ∈ lw_all := lw_g (lw_at lw_m3 20 rfl) rfl
theorem q616 : (Jvm.Cond.lays "java/lang/ArrayIndexOutOfBoundsException" "java/lang/Throwable" "stackTrace" "[Ljava/lang/StackTraceElement;") ∈ lw_all := lw_g (lw_at lw_m3 21 rfl) rfl
theorem q617 : (Jvm.Cond.lays "java/lang/ArrayIndexOutOfBoundsException" "java/lang/Throwable" "depth" "I") ∈ lw_all := lw_g (lw_at lw_m3 22 rfl) rfl
theorem q618 : (Jvm.Cond.lays "java/lang/ArrayIndexOutOfBoundsException" "java/lang/Throwable" "suppressedExceptions" "Ljava/util/List;") ∈ lw_all := lw_g (lw_at lw_m3 23 rfl) rfl
theorem q619 : (Jvm.Cond.superclass "java/lang/ArrayIndexOutOfBoundsException" "java/lang/IndexOutOfBoundsException") ∈ lw_all := lw_g (lw_at lw_m3 24 rfl) rfl
theorem q620 : (Jvm.Cond.castable "java/lang/ArrayIndexOutOfBoundsException" "java/lang/ArrayIndexOutOfBoundsException") ∈ lw_tbl := lw_at lw_m3 25 rfl
theorem q623 : (Jvm.Cond.selects "java/lang/ArrayIndexOutOfBoundsException" ({ cls := "java/lang/Throwable", name := "fillInStackTrace", desc := "(I)Ljava/lang/Throwable;" } : Jvm.MethodName) ({ cls := "java/lang/Throwable", name := "fillInStackTrace", desc := "(I)Ljava/lang/Throwable;" } : Jvm.MethodName)) ∈ lw_all := lw_g (lw_at lw_m3 28 rfl) rfl
theorem q1868 : (Jvm.Cond.castable "java/lang/ArrayIndexOutOfBoundsException" "java/lang/IndexOutOfBoundsException") ∈ lw_tbl := lw_at lw_m8 73 rfl
theorem in_J7 : ∀ w ∈ wsJ70, w ∈ lw_all := lw_in wsJ70 [613, 614, 615, 616, 617, 618] (by decide +kernel) (by decide +kernel)

/-! java/lang/Math -/
set_option maxRecDepth 100000
def RJ8 : String := "java/lang/Math"
abbrev cJ8_min : ByteArray := prog_19_method_69_code
def yJ8_min : MethodName := ⟨RJ8, "min", "(II)I"⟩
def dkwJ8_min_0 : List UInt8 := [26, 27, 163, 0, 7, 26, 167, 0, 4, 27, 172]
abbrev dktJ8_min_0 : List UInt8 := dkwJ8_min_0 ++ []
theorem dksJ8_min_0 : cJ8_min.data.toList.drop 0 = dktJ8_min_0 := by decide +kernel
theorem dJ8_min_0 : decode cJ8_min 0 = .ok (.iload_n 0, 1) := dk_26 (dk_at dksJ8_min_0 0 rfl rfl)
theorem dJ8_min_1 : decode cJ8_min 1 = .ok (.iload_n 1, 1) := dk_27 (dk_at dksJ8_min_0 1 rfl rfl)
theorem dJ8_min_2 : decode cJ8_min 2 = .ok (.if_icmp .gt 7, 3) := dk_163 0 7 (dk_at dksJ8_min_0 2 rfl rfl)
theorem dJ8_min_5 : decode cJ8_min 5 = .ok (.iload_n 0, 1) := dk_26 (dk_at dksJ8_min_0 5 rfl rfl)
theorem dJ8_min_6 : decode cJ8_min 6 = .ok (.goto 4, 3) := dk_167 0 4 (dk_at dksJ8_min_0 6 rfl rfl)
theorem dJ8_min_9 : decode cJ8_min 9 = .ok (.iload_n 1, 1) := dk_27 (dk_at dksJ8_min_0 9 rfl rfl)
theorem dJ8_min_10 : decode cJ8_min 10 = .ok (.ireturn, 1) := dk_172 (dk_at dksJ8_min_0 10 rfl rfl)
abbrev cJ8_max : ByteArray := prog_19_method_65_code
def yJ8_max : MethodName := ⟨RJ8, "max", "(II)I"⟩
def dkwJ8_max_0 : List UInt8 := [26, 27, 161, 0, 7, 26, 167, 0, 4, 27, 172]
abbrev dktJ8_max_0 : List UInt8 := dkwJ8_max_0 ++ []
theorem dksJ8_max_0 : cJ8_max.data.toList.drop 0 = dktJ8_max_0 := by decide +kernel
theorem dJ8_max_0 : decode cJ8_max 0 = .ok (.iload_n 0, 1) := dk_26 (dk_at dksJ8_max_0 0 rfl rfl)
theorem dJ8_max_1 : decode cJ8_max 1 = .ok (.iload_n 1, 1) := dk_27 (dk_at dksJ8_max_0 1 rfl rfl)
theorem dJ8_max_2 : decode cJ8_max 2 = .ok (.if_icmp .lt 7, 3) := dk_161 0 7 (dk_at dksJ8_max_0 2 rfl rfl)
theorem dJ8_max_5 : decode cJ8_max 5 = .ok (.iload_n 0, 1) := dk_26 (dk_at dksJ8_max_0 5 rfl rfl)
theorem dJ8_max_6 : decode cJ8_max 6 = .ok (.goto 4, 3) := dk_167 0 4 (dk_at dksJ8_max_0 6 rfl rfl)
theorem dJ8_max_9 : decode cJ8_max 9 = .ok (.iload_n 1, 1) := dk_27 (dk_at dksJ8_max_0 9 rfl rfl)
theorem dJ8_max_10 : decode cJ8_max 10 = .ok (.ireturn, 1) := dk_172 (dk_at dksJ8_max_0 10 rfl rfl)
abbrev cJ8_abs : ByteArray := prog_19_method_61_code
def yJ8_abs : MethodName := ⟨RJ8, "abs", "(J)J"⟩
def dkwJ8_abs_0 : List UInt8 := [30, 9, 148, 156, 0, 8, 30, 117, 167, 0, 4, 30, 173]
abbrev dktJ8_abs_0 : List UInt8 := dkwJ8_abs_0 ++ []
theorem dksJ8_abs_0 : cJ8_abs.data.toList.drop 0 = dktJ8_abs_0 := by decide +kernel
theorem dJ8_abs_0 : decode cJ8_abs 0 = .ok (.lload_n 0, 1) := dk_30 (dk_at dksJ8_abs_0 0 rfl rfl)
theorem dJ8_abs_1 : decode cJ8_abs 1 = .ok (.lconst 0, 1) := dk_9 (dk_at dksJ8_abs_0 1 rfl rfl)
theorem dJ8_abs_2 : decode cJ8_abs 2 = .ok (.lcmp, 1) := dk_148 (dk_at dksJ8_abs_0 2 rfl rfl)
theorem dJ8_abs_3 : decode cJ8_abs 3 = .ok (.ifCond .ge 8, 3) := dk_156 0 8 (dk_at dksJ8_abs_0 3 rfl rfl)
theorem dJ8_abs_6 : decode cJ8_abs 6 = .ok (.lload_n 0, 1) := dk_30 (dk_at dksJ8_abs_0 6 rfl rfl)
theorem dJ8_abs_7 : decode cJ8_abs 7 = .ok (.lneg, 1) := dk_117 (dk_at dksJ8_abs_0 7 rfl rfl)
theorem dJ8_abs_8 : decode cJ8_abs 8 = .ok (.goto 4, 3) := dk_167 0 4 (dk_at dksJ8_abs_0 8 rfl rfl)
theorem dJ8_abs_11 : decode cJ8_abs 11 = .ok (.lload_n 0, 1) := dk_30 (dk_at dksJ8_abs_0 11 rfl rfl)
theorem dJ8_abs_12 : decode cJ8_abs 12 = .ok (.lreturn, 1) := dk_173 (dk_at dksJ8_abs_0 12 rfl rfl)
abbrev cJ8_max_2 : ByteArray := prog_19_method_66_code
def yJ8_max_2 : MethodName := ⟨RJ8, "max", "(JJ)J"⟩
def dkwJ8_max_2_0 : List UInt8 := [30, 32, 148, 155, 0, 7, 30, 167, 0, 4, 32, 173]
abbrev dktJ8_max_2_0 : List UInt8 := dkwJ8_max_2_0 ++ []
theorem dksJ8_max_2_0 : cJ8_max_2.data.toList.drop 0 = dktJ8_max_2_0 := by decide +kernel
theorem dJ8_max_2_0 : decode cJ8_max_2 0 = .ok (.lload_n 0, 1) := dk_30 (dk_at dksJ8_max_2_0 0 rfl rfl)
theorem dJ8_max_2_1 : decode cJ8_max_2 1 = .ok (.lload_n 2, 1) := dk_32 (dk_at dksJ8_max_2_0 1 rfl rfl)
theorem dJ8_max_2_2 : decode cJ8_max_2 2 = .ok (.lcmp, 1) := dk_148 (dk_at dksJ8_max_2_0 2 rfl rfl)
theorem dJ8_max_2_3 : decode cJ8_max_2 3 = .ok (.ifCond .lt 7, 3) := dk_155 0 7 (dk_at dksJ8_max_2_0 3 rfl rfl)
theorem dJ8_max_2_6 : decode cJ8_max_2 6 = .ok (.lload_n 0, 1) := dk_30 (dk_at dksJ8_max_2_0 6 rfl rfl)
theorem dJ8_max_2_7 : decode cJ8_max_2 7 = .ok (.goto 4, 3) := dk_167 0 4 (dk_at dksJ8_max_2_0 7 rfl rfl)
theorem dJ8_max_2_10 : decode cJ8_max_2 10 = .ok (.lload_n 2, 1) := dk_32 (dk_at dksJ8_max_2_0 10 rfl rfl)
theorem dJ8_max_2_11 : decode cJ8_max_2 11 = .ok (.lreturn, 1) := dk_173 (dk_at dksJ8_max_2_0 11 rfl rfl)
theorem q132 : (Jvm.Cond.initialized "java/lang/Math") ∈ lw_all := lw_g (lw_at lw_m1 17 rfl) rfl
theorem q686 : (Jvm.Cond.static ({ cls := "java/lang/Math", name := "min", desc := "(II)I" } : Jvm.MethodName)) ∈ lw_all := lw_g (lw_at lw_m3 91 rfl) rfl
theorem q687 : (Jvm.Cond.code ({ cls := "java/lang/Math", name := "min", desc := "(II)I" } : Jvm.MethodName) prog_19_method_69_code (2 : Nat) (Option.some Jvm.ClassFile.FieldType.int)) ∈ lw_all := lw_g (lw_at lw_m3 92 rfl) rfl
theorem q1040 : (Jvm.Cond.static ({ cls := "java/lang/Math", name := "max", desc := "(II)I" } : Jvm.MethodName)) ∈ lw_all := lw_g (lw_at lw_m4 205 rfl) rfl
theorem q1041 : (Jvm.Cond.code ({ cls := "java/lang/Math", name := "max", desc := "(II)I" } : Jvm.MethodName) prog_19_method_65_code (2 : Nat) (Option.some Jvm.ClassFile.FieldType.int)) ∈ lw_all := lw_g (lw_at lw_m4 206 rfl) rfl
theorem q1160 : (Jvm.Cond.static ({ cls := "java/lang/Math", name := "abs", desc := "(J)J" } : Jvm.MethodName)) ∈ lw_all := lw_g (lw_at lw_m5 85 rfl) rfl
theorem q1161 : (Jvm.Cond.code ({ cls := "java/lang/Math", name := "abs", desc := "(J)J" } : Jvm.MethodName) prog_19_method_61_code (2 : Nat) (Option.some Jvm.ClassFile.FieldType.long)) ∈ lw_all := lw_g (lw_at lw_m5 86 rfl) rfl
theorem q1163 : (Jvm.Cond.static ({ cls := "java/lang/Math", name := "max", desc := "(JJ)J" } : Jvm.MethodName)) ∈ lw_all := lw_g (lw_at lw_m5 88 rfl) rfl
theorem q1164 : (Jvm.Cond.code ({ cls := "java/lang/Math", name := "max", desc := "(JJ)J" } : Jvm.MethodName) prog_19_method_66_code (4 : Nat) (Option.some Jvm.ClassFile.FieldType.long)) ∈ lw_all := lw_g (lw_at lw_m5 89 rfl) rfl

/-! java/lang/StringLatin1 -/
set_option maxRecDepth 100000
def RJ9 : String := "java/lang/StringLatin1"
abbrev cJ9_charAt : ByteArray := prog_24_method_2_code
def yJ9_charAt : MethodName := ⟨RJ9, "charAt", "([BI)C"⟩
def dkwJ9_charAt_0 : List UInt8 := [27, 42, 190, 184, 0, 9, 42, 27, 51, 17, 0, 255, 126, 146, 172]
abbrev dktJ9_charAt_0 : List UInt8 := dkwJ9_charAt_0 ++ []
theorem dksJ9_charAt_0 : cJ9_charAt.data.toList.drop 0 = dktJ9_charAt_0 := by decide +kernel
theorem dJ9_charAt_0 : decode cJ9_charAt 0 = .ok (.iload_n 1, 1) := dk_27 (dk_at dksJ9_charAt_0 0 rfl rfl)
theorem dJ9_charAt_1 : decode cJ9_charAt 1 = .ok (.aload_n 0, 1) := dk_42 (dk_at dksJ9_charAt_0 1 rfl rfl)
theorem dJ9_charAt_2 : decode cJ9_charAt 2 = .ok (.arraylength, 1) := dk_190 (dk_at dksJ9_charAt_0 2 rfl rfl)
theorem dJ9_charAt_3 : decode cJ9_charAt 3 = .ok (.invokestatic 9, 3) := dk_184 0 9 (dk_at dksJ9_charAt_0 3 rfl rfl)
theorem dJ9_charAt_6 : decode cJ9_charAt 6 = .ok (.aload_n 0, 1) := dk_42 (dk_at dksJ9_charAt_0 6 rfl rfl)
theorem dJ9_charAt_7 : decode cJ9_charAt 7 = .ok (.iload_n 1, 1) := dk_27 (dk_at dksJ9_charAt_0 7 rfl rfl)
theorem dJ9_charAt_8 : decode cJ9_charAt 8 = .ok (.baload, 1) := dk_51 (dk_at dksJ9_charAt_0 8 rfl rfl)
theorem dJ9_charAt_9 : decode cJ9_charAt 9 = .ok (.sipush 255, 3) := dk_17 0 255 (dk_at dksJ9_charAt_0 9 rfl rfl)
theorem dJ9_charAt_12 : decode cJ9_charAt 12 = .ok (.iand, 1) := dk_126 (dk_at dksJ9_charAt_0 12 rfl rfl)
theorem dJ9_charAt_13 : decode cJ9_charAt 13 = .ok (.i2c, 1) := dk_146 (dk_at dksJ9_charAt_0 13 rfl rfl)
theorem dJ9_charAt_14 : decode cJ9_charAt 14 = .ok (.ireturn, 1) := dk_172 (dk_at dksJ9_charAt_0 14 rfl rfl)
theorem q133 : (Jvm.Cond.initialized "java/lang/StringLatin1") ∈ lw_all := lw_g (lw_at lw_m1 18 rfl) rfl
theorem q716 : (Jvm.Cond.static ({ cls := "java/lang/StringLatin1", name := "charAt", desc := "([BI)C" } : Jvm.MethodName)) ∈ lw_all := lw_g (lw_at lw_m3 121 rfl) rfl
theorem q717 : (Jvm.Cond.code ({ cls := "java/lang/StringLatin1", name := "charAt", desc := "([BI)C" } : Jvm.MethodName) prog_24_method_2_code (2 : Nat) (Option.some Jvm.ClassFile.FieldType.char)) ∈ lw_all := lw_g (lw_at lw_m3 122 rfl) rfl
theorem q718 : (Jvm.Cond.methodLink "java/lang/StringLatin1" (9 : Nat) ({ cls := "java/lang/String", name := "checkIndex", desc := "(II)V" } : Jvm.MethodName)) ∈ lw_all := lw_g (lw_at lw_m3 123 rfl) rfl

/-! jdk/internal/util/Preconditions -/
set_option maxRecDepth 100000
def RJ10 : String := "jdk/internal/util/Preconditions"
abbrev cJ10_checkIndex : ByteArray := prog_28_method_11_code
def yJ10_checkIndex : MethodName := ⟨RJ10, "checkIndex", "(IILjava/util/function/BiFunction;)I"⟩
def dkwJ10_checkIndex_0 : List UInt8 := [26, 155, 0, 8, 26, 27, 161, 0, 10, 44, 26, 27, 184, 0, 95, 191, 26, 172]
abbrev dktJ10_checkIndex_0 : List UInt8 := dkwJ10_checkIndex_0 ++ []
theorem dksJ10_checkIndex_0 : cJ10_checkIndex.data.toList.drop 0 = dktJ10_checkIndex_0 := by decide +kernel
theorem dJ10_checkIndex_0 : decode cJ10_checkIndex 0 = .ok (.iload_n 0, 1) := dk_26 (dk_at dksJ10_checkIndex_0 0 rfl rfl)
theorem dJ10_checkIndex_1 : decode cJ10_checkIndex 1 = .ok (.ifCond .lt 8, 3) := dk_155 0 8 (dk_at dksJ10_checkIndex_0 1 rfl rfl)
theorem dJ10_checkIndex_4 : decode cJ10_checkIndex 4 = .ok (.iload_n 0, 1) := dk_26 (dk_at dksJ10_checkIndex_0 4 rfl rfl)
theorem dJ10_checkIndex_5 : decode cJ10_checkIndex 5 = .ok (.iload_n 1, 1) := dk_27 (dk_at dksJ10_checkIndex_0 5 rfl rfl)
theorem dJ10_checkIndex_6 : decode cJ10_checkIndex 6 = .ok (.if_icmp .lt 10, 3) := dk_161 0 10 (dk_at dksJ10_checkIndex_0 6 rfl rfl)
theorem dJ10_checkIndex_9 : decode cJ10_checkIndex 9 = .ok (.aload_n 2, 1) := dk_44 (dk_at dksJ10_checkIndex_0 9 rfl rfl)
theorem dJ10_checkIndex_10 : decode cJ10_checkIndex 10 = .ok (.iload_n 0, 1) := dk_26 (dk_at dksJ10_checkIndex_0 10 rfl rfl)
theorem dJ10_checkIndex_11 : decode cJ10_checkIndex 11 = .ok (.iload_n 1, 1) := dk_27 (dk_at dksJ10_checkIndex_0 11 rfl rfl)
theorem dJ10_checkIndex_12 : decode cJ10_checkIndex 12 = .ok (.invokestatic 95, 3) := dk_184 0 95 (dk_at dksJ10_checkIndex_0 12 rfl rfl)
theorem dJ10_checkIndex_15 : decode cJ10_checkIndex 15 = .ok (.athrow, 1) := dk_191 (dk_at dksJ10_checkIndex_0 15 rfl rfl)
theorem dJ10_checkIndex_16 : decode cJ10_checkIndex 16 = .ok (.iload_n 0, 1) := dk_26 (dk_at dksJ10_checkIndex_0 16 rfl rfl)
theorem dJ10_checkIndex_17 : decode cJ10_checkIndex 17 = .ok (.ireturn, 1) := dk_172 (dk_at dksJ10_checkIndex_0 17 rfl rfl)
theorem q134 : (Jvm.Cond.initialized "jdk/internal/util/Preconditions") ∈ lw_all := lw_g (lw_at lw_m1 19 rfl) rfl
theorem q722 : (Jvm.Cond.laysStatic "jdk/internal/util/Preconditions" "SIOOBE_FORMATTER" "Ljava/util/function/BiFunction;") ∈ lw_tbl := lw_at lw_m3 127 rfl
theorem q724 : (Jvm.Cond.static ({ cls := "jdk/internal/util/Preconditions", name := "checkIndex", desc := "(IILjava/util/function/BiFunction;)I" } : Jvm.MethodName)) ∈ lw_all := lw_g (lw_at lw_m3 129 rfl) rfl
theorem q725 : (Jvm.Cond.code ({ cls := "jdk/internal/util/Preconditions", name := "checkIndex", desc := "(IILjava/util/function/BiFunction;)I" } : Jvm.MethodName) prog_28_method_11_code (3 : Nat) (Option.some Jvm.ClassFile.FieldType.int)) ∈ lw_all := lw_g (lw_at lw_m3 130 rfl) rfl

/-! java/lang/StringUTF16 -/
set_option maxRecDepth 100000
def RJ11 : String := "java/lang/StringUTF16"
abbrev cJ11_charAt : ByteArray := prog_25_method_83_code
def yJ11_charAt : MethodName := ⟨RJ11, "charAt", "([BI)C"⟩
def dkwJ11_charAt_0 : List UInt8 := [27, 42, 184, 0, 67, 42, 27, 184, 0, 71, 172]
abbrev dktJ11_charAt_0 : List UInt8 := dkwJ11_charAt_0 ++ []
theorem dksJ11_charAt_0 : cJ11_charAt.data.toList.drop 0 = dktJ11_charAt_0 := by decide +kernel
theorem dJ11_charAt_0 : decode cJ11_charAt 0 = .ok (.iload_n 1, 1) := dk_27 (dk_at dksJ11_charAt_0 0 rfl rfl)
theorem dJ11_charAt_1 : decode cJ11_charAt 1 = .ok (.aload_n 0, 1) := dk_42 (dk_at dksJ11_charAt_0 1 rfl rfl)
theorem dJ11_charAt_2 : decode cJ11_charAt 2 = .ok (.invokestatic 67, 3) := dk_184 0 67 (dk_at dksJ11_charAt_0 2 rfl rfl)
theorem dJ11_charAt_5 : decode cJ11_charAt 5 = .ok (.aload_n 0, 1) := dk_42 (dk_at dksJ11_charAt_0 5 rfl rfl)
theorem dJ11_charAt_6 : decode cJ11_charAt 6 = .ok (.iload_n 1, 1) := dk_27 (dk_at dksJ11_charAt_0 6 rfl rfl)
theorem dJ11_charAt_7 : decode cJ11_charAt 7 = .ok (.invokestatic 71, 3) := dk_184 0 71 (dk_at dksJ11_charAt_0 7 rfl rfl)
theorem dJ11_charAt_10 : decode cJ11_charAt 10 = .ok (.ireturn, 1) := dk_172 (dk_at dksJ11_charAt_0 10 rfl rfl)
abbrev cJ11_checkIndex : ByteArray := prog_25_method_91_code
def yJ11_checkIndex : MethodName := ⟨RJ11, "checkIndex", "(I[B)V"⟩
def dkwJ11_checkIndex_0 : List UInt8 := [26, 43, 184, 0, 48, 184, 1, 158, 177]
abbrev dktJ11_checkIndex_0 : List UInt8 := dkwJ11_checkIndex_0 ++ []
theorem dksJ11_checkIndex_0 : cJ11_checkIndex.data.toList.drop 0 = dktJ11_checkIndex_0 := by decide +kernel
theorem dJ11_checkIndex_0 : decode cJ11_checkIndex 0 = .ok (.iload_n 0, 1) := dk_26 (dk_at dksJ11_checkIndex_0 0 rfl rfl)
theorem dJ11_checkIndex_1 : decode cJ11_checkIndex 1 = .ok (.aload_n 1, 1) := dk_43 (dk_at dksJ11_checkIndex_0 1 rfl rfl)
theorem dJ11_checkIndex_2 : decode cJ11_checkIndex 2 = .ok (.invokestatic 48, 3) := dk_184 0 48 (dk_at dksJ11_checkIndex_0 2 rfl rfl)
theorem dJ11_checkIndex_5 : decode cJ11_checkIndex 5 = .ok (.invokestatic 414, 3) := dk_184 1 158 (dk_at dksJ11_checkIndex_0 5 rfl rfl)
theorem dJ11_checkIndex_8 : decode cJ11_checkIndex 8 = .ok (.return_, 1) := dk_177 (dk_at dksJ11_checkIndex_0 8 rfl rfl)
abbrev cJ11_length : ByteArray := prog_25_method_6_code
def yJ11_length : MethodName := ⟨RJ11, "length", "([B)I"⟩
def dkwJ11_length_0 : List UInt8 := [42, 190, 4, 122, 172]
abbrev dktJ11_length_0 : List UInt8 := dkwJ11_length_0 ++ []
theorem dksJ11_length_0 : cJ11_length.data.toList.drop 0 = dktJ11_length_0 := by decide +kernel
theorem dJ11_length_0 : decode cJ11_length 0 = .ok (.aload_n 0, 1) := dk_42 (dk_at dksJ11_length_0 0 rfl rfl)
theorem dJ11_length_1 : decode cJ11_length 1 = .ok (.arraylength, 1) := dk_190 (dk_at dksJ11_length_0 1 rfl rfl)
theorem dJ11_length_2 : decode cJ11_length 2 = .ok (.iconst 1, 1) := dk_4 (dk_at dksJ11_length_0 2 rfl rfl)
theorem dJ11_length_3 : decode cJ11_length 3 = .ok (.ishr, 1) := dk_122 (dk_at dksJ11_length_0 3 rfl rfl)
theorem dJ11_length_4 : decode cJ11_length 4 = .ok (.ireturn, 1) := dk_172 (dk_at dksJ11_length_0 4 rfl rfl)
abbrev cJ11_getChar : ByteArray := prog_25_method_5_code
def yJ11_getChar : MethodName := ⟨RJ11, "getChar", "([BI)C"⟩
def dkwJ11_getChar_2 : List UInt8 := [51, 17, 0, 255, 126, 178, 0, 63, 120, 128, 146, 172]
abbrev dktJ11_getChar_2 : List UInt8 := dkwJ11_getChar_2 ++ []
def dkwJ11_getChar_1 : List UInt8 := [183, 0, 56, 191, 27, 4, 120, 60, 42, 27, 132, 1, 1, 51, 17, 0, 255, 126, 178, 0, 59, 120, 42, 27]
abbrev dktJ11_getChar_1 : List UInt8 := dkwJ11_getChar_1 ++ dktJ11_getChar_2
def dkwJ11_getChar_0 : List UInt8 := [178, 0, 44, 154, 0, 25, 27, 155, 0, 11, 27, 42, 184, 0, 48, 161, 0, 13, 187, 0, 52, 89, 18, 54]
abbrev dktJ11_getChar_0 : List UInt8 := dkwJ11_getChar_0 ++ dktJ11_getChar_1
theorem dksJ11_getChar_0 : cJ11_getChar.data.toList.drop 0 = dktJ11_getChar_0 := by decide +kernel
theorem dksJ11_getChar_1 : cJ11_getChar.data.toList.drop 24 = dktJ11_getChar_1 := dk_seg dksJ11_getChar_0 24 rfl rfl
theorem dksJ11_getChar_2 : cJ11_getChar.data.toList.drop 48 = dktJ11_getChar_2 := dk_seg dksJ11_getChar_1 24 rfl rfl
theorem dJ11_getChar_0 : decode cJ11_getChar 0 = .ok (.getstatic 44, 3) := dk_178 0 44 (dk_at dksJ11_getChar_0 0 rfl rfl)
theorem dJ11_getChar_3 : decode cJ11_getChar 3 = .ok (.ifCond .ne 25, 3) := dk_154 0 25 (dk_at dksJ11_getChar_0 3 rfl rfl)
theorem dJ11_getChar_6 : decode cJ11_getChar 6 = .ok (.iload_n 1, 1) := dk_27 (dk_at dksJ11_getChar_0 6 rfl rfl)
theorem dJ11_getChar_7 : decode cJ11_getChar 7 = .ok (.ifCond .lt 11, 3) := dk_155 0 11 (dk_at dksJ11_getChar_0 7 rfl rfl)
theorem dJ11_getChar_10 : decode cJ11_getChar 10 = .ok (.iload_n 1, 1) := dk_27 (dk_at dksJ11_getChar_0 10 rfl rfl)
theorem dJ11_getChar_11 : decode cJ11_getChar 11 = .ok (.aload_n 0, 1) := dk_42 (dk_at dksJ11_getChar_0 11 rfl rfl)
theorem dJ11_getChar_12 : decode cJ11_getChar 12 = .ok (.invokestatic 48, 3) := dk_184 0 48 (dk_at dksJ11_getChar_0 12 rfl rfl)
theorem dJ11_getChar_15 : decode cJ11_getChar 15 = .ok (.if_icmp .lt 13, 3) := dk_161 0 13 (dk_at dksJ11_getChar_0 15 rfl rfl)
theorem dJ11_getChar_18 : decode cJ11_getChar 18 = .ok (.new 52, 3) := dk_187 0 52 (dk_at dksJ11_getChar_0 18 rfl rfl)
theorem dJ11_getChar_21 : decode cJ11_getChar 21 = .ok (.dup, 1) := dk_89 (dk_at dksJ11_getChar_0 21 rfl rfl)
theorem dJ11_getChar_22 : decode cJ11_getChar 22 = .ok (.ldc 54, 2) := dk_18 54 (dk_at dksJ11_getChar_0 22 rfl rfl)
theorem dJ11_getChar_24 : decode cJ11_getChar 24 = .ok (.invokespecial 56, 3) := dk_183 0 56 (dk_at dksJ11_getChar_1 0 rfl rfl)
theorem dJ11_getChar_27 : decode cJ11_getChar 27 = .ok (.athrow, 1) := dk_191 (dk_at dksJ11_getChar_1 3 rfl rfl)
theorem dJ11_getChar_28 : decode cJ11_getChar 28 = .ok (.iload_n 1, 1) := dk_27 (dk_at dksJ11_getChar_1 4 rfl rfl)
theorem dJ11_getChar_29 : decode cJ11_getChar 29 = .ok (.iconst 1, 1) := dk_4 (dk_at dksJ11_getChar_1 5 rfl rfl)
theorem dJ11_getChar_30 : decode cJ11_getChar 30 = .ok (.ishl, 1) := dk_120 (dk_at dksJ11_getChar_1 6 rfl rfl)
theorem dJ11_getChar_31 : decode cJ11_getChar 31 = .ok (.istore_n 1, 1) := dk_60 (dk_at dksJ11_getChar_1 7 rfl rfl)
theorem dJ11_getChar_32 : decode cJ11_getChar 32 = .ok (.aload_n 0, 1) := dk_42 (dk_at dksJ11_getChar_1 8 rfl rfl)
theorem dJ11_getChar_33 : decode cJ11_getChar 33 = .ok (.iload_n 1, 1) := dk_27 (dk_at dksJ11_getChar_1 9 rfl rfl)
theorem dJ11_getChar_34 : decode cJ11_getChar 34 = .ok (.iinc 1 1, 3) := dk_132 1 1 (dk_at dksJ11_getChar_1 10 rfl rfl)
theorem dJ11_getChar_37 : decode cJ11_getChar 37 = .ok (.baload, 1) := dk_51 (dk_at dksJ11_getChar_1 13 rfl rfl)
theorem dJ11_getChar_38 : decode cJ11_getChar 38 = .ok (.sipush 255, 3) := dk_17 0 255 (dk_at dksJ11_getChar_1 14 rfl rfl)
theorem dJ11_getChar_41 : decode cJ11_getChar 41 = .ok (.iand, 1) := dk_126 (dk_at dksJ11_getChar_1 17 rfl rfl)
theorem dJ11_getChar_42 : decode cJ11_getChar 42 = .ok (.getstatic 59, 3) := dk_178 0 59 (dk_at dksJ11_getChar_1 18 rfl rfl)
theorem dJ11_getChar_45 : decode cJ11_getChar 45 = .ok (.ishl, 1) := dk_120 (dk_at dksJ11_getChar_1 21 rfl rfl)
theorem dJ11_getChar_46 : decode cJ11_getChar 46 = .ok (.aload_n 0, 1) := dk_42 (dk_at dksJ11_getChar_1 22 rfl rfl)
theorem dJ11_getChar_47 : decode cJ11_getChar 47 = .ok (.iload_n 1, 1) := dk_27 (dk_at dksJ11_getChar_1 23 rfl rfl)
theorem dJ11_getChar_48 : decode cJ11_getChar 48 = .ok (.baload, 1) := dk_51 (dk_at dksJ11_getChar_2 0 rfl rfl)
theorem dJ11_getChar_49 : decode cJ11_getChar 49 = .ok (.sipush 255, 3) := dk_17 0 255 (dk_at dksJ11_getChar_2 1 rfl rfl)
theorem dJ11_getChar_52 : decode cJ11_getChar 52 = .ok (.iand, 1) := dk_126 (dk_at dksJ11_getChar_2 4 rfl rfl)
theorem dJ11_getChar_53 : decode cJ11_getChar 53 = .ok (.getstatic 63, 3) := dk_178 0 63 (dk_at dksJ11_getChar_2 5 rfl rfl)
theorem dJ11_getChar_56 : decode cJ11_getChar 56 = .ok (.ishl, 1) := dk_120 (dk_at dksJ11_getChar_2 8 rfl rfl)
theorem dJ11_getChar_57 : decode cJ11_getChar 57 = .ok (.ior, 1) := dk_128 (dk_at dksJ11_getChar_2 9 rfl rfl)
theorem dJ11_getChar_58 : decode cJ11_getChar 58 = .ok (.i2c, 1) := dk_146 (dk_at dksJ11_getChar_2 10 rfl rfl)
theorem dJ11_getChar_59 : decode cJ11_getChar 59 = .ok (.ireturn, 1) := dk_172 (dk_at dksJ11_getChar_2 11 rfl rfl)
theorem q135 : (Jvm.Cond.initialized "java/lang/StringUTF16") ∈ lw_all := lw_g (lw_at lw_m1 20 rfl) rfl
theorem q727 : (Jvm.Cond.static ({ cls := "java/lang/StringUTF16", name := "charAt", desc := "([BI)C" } : Jvm.MethodName)) ∈ lw_all := lw_g (lw_at lw_m3 132 rfl) rfl
theorem q728 : (Jvm.Cond.code ({ cls := "java/lang/StringUTF16", name := "charAt", desc := "([BI)C" } : Jvm.MethodName) prog_25_method_83_code (2 : Nat) (Option.some Jvm.ClassFile.FieldType.char)) ∈ lw_all := lw_g (lw_at lw_m3 133 rfl) rfl
theorem q729 : (Jvm.Cond.methodLink "java/lang/StringUTF16" (67 : Nat) ({ cls := "java/lang/StringUTF16", name := "checkIndex", desc := "(I[B)V" } : Jvm.MethodName)) ∈ lw_all := lw_g (lw_at lw_m3 134 rfl) rfl
theorem q730 : (Jvm.Cond.static ({ cls := "java/lang/StringUTF16", name := "checkIndex", desc := "(I[B)V" } : Jvm.MethodName)) ∈ lw_all := lw_g (lw_at lw_m3 135 rfl) rfl
theorem q731 : (Jvm.Cond.code ({ cls := "java/lang/StringUTF16", name := "checkIndex", desc := "(I[B)V" } : Jvm.MethodName) prog_25_method_91_code (2 : Nat) (Option.none : Option Jvm.ClassFile.FieldType)) ∈ lw_all := lw_g (lw_at lw_m3 136 rfl) rfl
theorem q732 : (Jvm.Cond.methodLink "java/lang/StringUTF16" (48 : Nat) ({ cls := "java/lang/StringUTF16", name := "length", desc := "([B)I" } : Jvm.MethodName)) ∈ lw_all := lw_g (lw_at lw_m3 137 rfl) rfl
theorem q733 : (Jvm.Cond.static ({ cls := "java/lang/StringUTF16", name := "length", desc := "([B)I" } : Jvm.MethodName)) ∈ lw_all := lw_g (lw_at lw_m3 138 rfl) rfl
theorem q734 : (Jvm.Cond.code ({ cls := "java/lang/StringUTF16", name := "length", desc := "([B)I" } : Jvm.MethodName) prog_25_method_6_code (1 : Nat) (Option.some Jvm.ClassFile.FieldType.int)) ∈ lw_all := lw_g (lw_at lw_m3 139 rfl) rfl
theorem q735 : (Jvm.Cond.methodLink "java/lang/StringUTF16" (414 : Nat) ({ cls := "java/lang/String", name := "checkIndex", desc := "(II)V" } : Jvm.MethodName)) ∈ lw_all := lw_g (lw_at lw_m3 140 rfl) rfl
theorem q736 : (Jvm.Cond.methodLink "java/lang/StringUTF16" (71 : Nat) ({ cls := "java/lang/StringUTF16", name := "getChar", desc := "([BI)C" } : Jvm.MethodName)) ∈ lw_all := lw_g (lw_at lw_m3 141 rfl) rfl
theorem q737 : (Jvm.Cond.static ({ cls := "java/lang/StringUTF16", name := "getChar", desc := "([BI)C" } : Jvm.MethodName)) ∈ lw_all := lw_g (lw_at lw_m3 142 rfl) rfl
theorem q738 : (Jvm.Cond.code ({ cls := "java/lang/StringUTF16", name := "getChar", desc := "([BI)C" } : Jvm.MethodName) prog_25_method_5_code (2 : Nat) (Option.some Jvm.ClassFile.FieldType.char)) ∈ lw_all := lw_g (lw_at lw_m3 143 rfl) rfl
theorem q739 : (Jvm.Cond.fieldLink "java/lang/StringUTF16" (44 : Nat) "java/lang/StringUTF16" "$assertionsDisabled" "Z") ∈ lw_all := lw_g (lw_at lw_m3 144 rfl) rfl
theorem q740 : (Jvm.Cond.laysStatic "java/lang/StringUTF16" "$assertionsDisabled" "Z") ∈ lw_tbl := lw_at lw_m3 145 rfl
theorem q741 : (Jvm.Cond.fieldLink "java/lang/StringUTF16" (59 : Nat) "java/lang/StringUTF16" "HI_BYTE_SHIFT" "I") ∈ lw_all := lw_g (lw_at lw_m3 146 rfl) rfl
theorem q742 : (Jvm.Cond.laysStatic "java/lang/StringUTF16" "HI_BYTE_SHIFT" "I") ∈ lw_tbl := lw_at lw_m3 147 rfl
theorem q743 : (Jvm.Cond.fieldLink "java/lang/StringUTF16" (63 : Nat) "java/lang/StringUTF16" "LO_BYTE_SHIFT" "I") ∈ lw_all := lw_g (lw_at lw_m3 148 rfl) rfl
theorem q744 : (Jvm.Cond.laysStatic "java/lang/StringUTF16" "LO_BYTE_SHIFT" "I") ∈ lw_tbl := lw_at lw_m3 149 rfl

/-! TwoSeek$Place -/
set_option maxRecDepth 100000
def RX7 : String := "TwoSeek$Place"
def TX7 : u_T := fun k => match k with
  | 0 => ("TwoSeek$Place", "name", "J", true)
  | 1 => ("TwoSeek$Place", "number", "I", true)
  | 2 => ("TwoSeek$Place", "sight", "I", false)
  | 3 => ("TwoSeek$Place", "first", "I", false)
  | 4 => ("TwoSeek$Place", "second", "I", false)
  | 5 => ("TwoSeek$Place", "many", "I", false)
  | _ => ("TwoSeek$Place", "lanes", "[LTwoSeek$Lane;", true)
def tyX7 : Nat → FieldType := fun k => match k with
  | 0 => .long
  | 1 => .int
  | 2 => .int
  | 3 => .int
  | 4 => .int
  | 5 => .int
  | _ => .array (.object "TwoSeek$Lane")
abbrev wsX70 : List Cond := u_ws RX7 TX7 7
theorem nmX7 : ∀ a, a < 7 → ∀ b, b < 7 → a ≠ b → (TX7 a).2.1 ≠ (TX7 b).2.1 := by decide +kernel
theorem tyX7_ok : ∀ k, k < 7 → parseFieldDescriptor (TX7 k).2.2.1 = some (tyX7 k) := by decide +kernel
abbrev cX7_init : ByteArray := prog_6_method_1_code
def yX7_init : MethodName := ⟨RX7, "<init>", "(JI)V"⟩
def dkwX7_init_1 : List UInt8 := [181, 0, 24, 42, 29, 181, 0, 28, 177]
abbrev dktX7_init_1 : List UInt8 := dkwX7_init_1 ++ []
def dkwX7_init_0 : List UInt8 := [42, 183, 0, 3, 42, 4, 181, 0, 9, 42, 4, 181, 0, 15, 42, 7, 189, 0, 18, 181, 0, 20, 42, 31]
abbrev dktX7_init_0 : List UInt8 := dkwX7_init_0 ++ dktX7_init_1
theorem dksX7_init_0 : cX7_init.data.toList.drop 0 = dktX7_init_0 := by decide +kernel
theorem dksX7_init_1 : cX7_init.data.toList.drop 24 = dktX7_init_1 := dk_seg dksX7_init_0 24 rfl rfl
theorem dX7_init_0 : decode cX7_init 0 = .ok (.aload_n 0, 1) := dk_42 (dk_at dksX7_init_0 0 rfl rfl)
theorem dX7_init_1 : decode cX7_init 1 = .ok (.invokespecial 3, 3) := dk_183 0 3 (dk_at dksX7_init_0 1 rfl rfl)
theorem dX7_init_4 : decode cX7_init 4 = .ok (.aload_n 0, 1) := dk_42 (dk_at dksX7_init_0 4 rfl rfl)
theorem dX7_init_5 : decode cX7_init 5 = .ok (.iconst 1, 1) := dk_4 (dk_at dksX7_init_0 5 rfl rfl)
theorem dX7_init_6 : decode cX7_init 6 = .ok (.putfield 9, 3) := dk_181 0 9 (dk_at dksX7_init_0 6 rfl rfl)
theorem dX7_init_9 : decode cX7_init 9 = .ok (.aload_n 0, 1) := dk_42 (dk_at dksX7_init_0 9 rfl rfl)
theorem dX7_init_10 : decode cX7_init 10 = .ok (.iconst 1, 1) := dk_4 (dk_at dksX7_init_0 10 rfl rfl)
theorem dX7_init_11 : decode cX7_init 11 = .ok (.putfield 15, 3) := dk_181 0 15 (dk_at dksX7_init_0 11 rfl rfl)
theorem dX7_init_14 : decode cX7_init 14 = .ok (.aload_n 0, 1) := dk_42 (dk_at dksX7_init_0 14 rfl rfl)
theorem dX7_init_15 : decode cX7_init 15 = .ok (.iconst 4, 1) := dk_7 (dk_at dksX7_init_0 15 rfl rfl)
theorem dX7_init_16 : decode cX7_init 16 = .ok (.anewarray 18, 3) := dk_189 0 18 (dk_at dksX7_init_0 16 rfl rfl)
theorem dX7_init_19 : decode cX7_init 19 = .ok (.putfield 20, 3) := dk_181 0 20 (dk_at dksX7_init_0 19 rfl rfl)
theorem dX7_init_22 : decode cX7_init 22 = .ok (.aload_n 0, 1) := dk_42 (dk_at dksX7_init_0 22 rfl rfl)
theorem dX7_init_23 : decode cX7_init 23 = .ok (.lload_n 1, 1) := dk_31 (dk_at dksX7_init_0 23 rfl rfl)
theorem dX7_init_24 : decode cX7_init 24 = .ok (.putfield 24, 3) := dk_181 0 24 (dk_at dksX7_init_1 0 rfl rfl)
theorem dX7_init_27 : decode cX7_init 27 = .ok (.aload_n 0, 1) := dk_42 (dk_at dksX7_init_1 3 rfl rfl)
theorem dX7_init_28 : decode cX7_init 28 = .ok (.iload_n 3, 1) := dk_29 (dk_at dksX7_init_1 4 rfl rfl)
theorem dX7_init_29 : decode cX7_init 29 = .ok (.putfield 28, 3) := dk_181 0 28 (dk_at dksX7_init_1 5 rfl rfl)
theorem dX7_init_32 : decode cX7_init 32 = .ok (.return_, 1) := dk_177 (dk_at dksX7_init_1 8 rfl rfl)
abbrev cX7_leads : ByteArray := prog_6_method_3_code
def yX7_leads : MethodName := ⟨RX7, "leads", "(LTwoSeek$Place;)Z"⟩
def dkwX7_leads_1 : List UInt8 := [4, 172, 132, 2, 1, 167, 255, 229, 3, 172]
abbrev dktX7_leads_1 : List UInt8 := dkwX7_leads_1 ++ []
def dkwX7_leads_0 : List UInt8 := [3, 61, 28, 42, 180, 0, 31, 162, 0, 25, 42, 180, 0, 20, 28, 50, 42, 182, 0, 34, 43, 166, 0, 5]
abbrev dktX7_leads_0 : List UInt8 := dkwX7_leads_0 ++ dktX7_leads_1
theorem dksX7_leads_0 : cX7_leads.data.toList.drop 0 = dktX7_leads_0 := by decide +kernel
theorem dksX7_leads_1 : cX7_leads.data.toList.drop 24 = dktX7_leads_1 := dk_seg dksX7_leads_0 24 rfl rfl
theorem dX7_leads_0 : decode cX7_leads 0 = .ok (.iconst 0, 1) := dk_3 (dk_at dksX7_leads_0 0 rfl rfl)
theorem dX7_leads_1 : decode cX7_leads 1 = .ok (.istore_n 2, 1) := dk_61 (dk_at dksX7_leads_0 1 rfl rfl)
theorem dX7_leads_2 : decode cX7_leads 2 = .ok (.iload_n 2, 1) := dk_28 (dk_at dksX7_leads_0 2 rfl rfl)
theorem dX7_leads_3 : decode cX7_leads 3 = .ok (.aload_n 0, 1) := dk_42 (dk_at dksX7_leads_0 3 rfl rfl)
theorem dX7_leads_4 : decode cX7_leads 4 = .ok (.getfield 31, 3) := dk_180 0 31 (dk_at dksX7_leads_0 4 rfl rfl)
theorem dX7_leads_7 : decode cX7_leads 7 = .ok (.if_icmp .ge 25, 3) := dk_162 0 25 (dk_at dksX7_leads_0 7 rfl rfl)
theorem dX7_leads_10 : decode cX7_leads 10 = .ok (.aload_n 0, 1) := dk_42 (dk_at dksX7_leads_0 10 rfl rfl)
theorem dX7_leads_11 : decode cX7_leads 11 = .ok (.getfield 20, 3) := dk_180 0 20 (dk_at dksX7_leads_0 11 rfl rfl)
theorem dX7_leads_14 : decode cX7_leads 14 = .ok (.iload_n 2, 1) := dk_28 (dk_at dksX7_leads_0 14 rfl rfl)
theorem dX7_leads_15 : decode cX7_leads 15 = .ok (.aaload, 1) := dk_50 (dk_at dksX7_leads_0 15 rfl rfl)
theorem dX7_leads_16 : decode cX7_leads 16 = .ok (.aload_n 0, 1) := dk_42 (dk_at dksX7_leads_0 16 rfl rfl)
theorem dX7_leads_17 : decode cX7_leads 17 = .ok (.invokevirtual 34, 3) := dk_182 0 34 (dk_at dksX7_leads_0 17 rfl rfl)
theorem dX7_leads_20 : decode cX7_leads 20 = .ok (.aload_n 1, 1) := dk_43 (dk_at dksX7_leads_0 20 rfl rfl)
theorem dX7_leads_21 : decode cX7_leads 21 = .ok (.if_acmp .ne 5, 3) := dk_166 0 5 (dk_at dksX7_leads_0 21 rfl rfl)
theorem dX7_leads_24 : decode cX7_leads 24 = .ok (.iconst 1, 1) := dk_4 (dk_at dksX7_leads_1 0 rfl rfl)
theorem dX7_leads_25 : decode cX7_leads 25 = .ok (.ireturn, 1) := dk_172 (dk_at dksX7_leads_1 1 rfl rfl)
theorem dX7_leads_26 : decode cX7_leads 26 = .ok (.iinc 2 1, 3) := dk_132 2 1 (dk_at dksX7_leads_1 2 rfl rfl)
theorem dX7_leads_29 : decode cX7_leads 29 = .ok (.goto (-27), 3) := dk_167 255 229 (dk_at dksX7_leads_1 5 rfl rfl)
theorem dX7_leads_32 : decode cX7_leads 32 = .ok (.iconst 0, 1) := dk_3 (dk_at dksX7_leads_1 8 rfl rfl)
theorem dX7_leads_33 : decode cX7_leads 33 = .ok (.ireturn, 1) := dk_172 (dk_at dksX7_leads_1 9 rfl rfl)
abbrev cX7_add : ByteArray := prog_6_method_2_code
def yX7_add : MethodName := ⟨RX7, "add", "(LTwoSeek$Lane;)V"⟩
def dkwX7_add_0 : List UInt8 := [42, 180, 0, 20, 42, 180, 0, 31, 43, 83, 42, 89, 180, 0, 31, 4, 96, 181, 0, 31, 177]
abbrev dktX7_add_0 : List UInt8 := dkwX7_add_0 ++ []
theorem dksX7_add_0 : cX7_add.data.toList.drop 0 = dktX7_add_0 := by decide +kernel
theorem dX7_add_0 : decode cX7_add 0 = .ok (.aload_n 0, 1) := dk_42 (dk_at dksX7_add_0 0 rfl rfl)
theorem dX7_add_1 : decode cX7_add 1 = .ok (.getfield 20, 3) := dk_180 0 20 (dk_at dksX7_add_0 1 rfl rfl)
theorem dX7_add_4 : decode cX7_add 4 = .ok (.aload_n 0, 1) := dk_42 (dk_at dksX7_add_0 4 rfl rfl)
theorem dX7_add_5 : decode cX7_add 5 = .ok (.getfield 31, 3) := dk_180 0 31 (dk_at dksX7_add_0 5 rfl rfl)
theorem dX7_add_8 : decode cX7_add 8 = .ok (.aload_n 1, 1) := dk_43 (dk_at dksX7_add_0 8 rfl rfl)
theorem dX7_add_9 : decode cX7_add 9 = .ok (.aastore, 1) := dk_83 (dk_at dksX7_add_0 9 rfl rfl)
theorem dX7_add_10 : decode cX7_add 10 = .ok (.aload_n 0, 1) := dk_42 (dk_at dksX7_add_0 10 rfl rfl)
theorem dX7_add_11 : decode cX7_add 11 = .ok (.dup, 1) := dk_89 (dk_at dksX7_add_0 11 rfl rfl)
theorem dX7_add_12 : decode cX7_add 12 = .ok (.getfield 31, 3) := dk_180 0 31 (dk_at dksX7_add_0 12 rfl rfl)
theorem dX7_add_15 : decode cX7_add 15 = .ok (.iconst 1, 1) := dk_4 (dk_at dksX7_add_0 15 rfl rfl)
theorem dX7_add_16 : decode cX7_add 16 = .ok (.iadd, 1) := dk_96 (dk_at dksX7_add_0 16 rfl rfl)
theorem dX7_add_17 : decode cX7_add 17 = .ok (.putfield 31, 3) := dk_181 0 31 (dk_at dksX7_add_0 17 rfl rfl)
theorem dX7_add_20 : decode cX7_add 20 = .ok (.return_, 1) := dk_177 (dk_at dksX7_add_0 20 rfl rfl)
abbrev cX7_by : ByteArray := prog_6_method_4_code
def yX7_by : MethodName := ⟨RX7, "by", "(I)LTwoSeek$Place;"⟩
def dkwX7_by_1 : List UInt8 := [153, 0, 7, 42, 167, 0, 15, 42, 180, 0, 20, 27, 4, 100, 50, 42, 182, 0, 34, 176]
abbrev dktX7_by_1 : List UInt8 := dkwX7_by_1 ++ []
def dkwX7_by_0 : List UInt8 := [27, 4, 161, 0, 25, 27, 42, 180, 0, 31, 163, 0, 17, 42, 180, 0, 20, 27, 4, 100, 50, 180, 0, 38]
abbrev dktX7_by_0 : List UInt8 := dkwX7_by_0 ++ dktX7_by_1
theorem dksX7_by_0 : cX7_by.data.toList.drop 0 = dktX7_by_0 := by decide +kernel
theorem dksX7_by_1 : cX7_by.data.toList.drop 24 = dktX7_by_1 := dk_seg dksX7_by_0 24 rfl rfl
theorem dX7_by_0 : decode cX7_by 0 = .ok (.iload_n 1, 1) := dk_27 (dk_at dksX7_by_0 0 rfl rfl)
theorem dX7_by_1 : decode cX7_by 1 = .ok (.iconst 1, 1) := dk_4 (dk_at dksX7_by_0 1 rfl rfl)
theorem dX7_by_2 : decode cX7_by 2 = .ok (.if_icmp .lt 25, 3) := dk_161 0 25 (dk_at dksX7_by_0 2 rfl rfl)
theorem dX7_by_5 : decode cX7_by 5 = .ok (.iload_n 1, 1) := dk_27 (dk_at dksX7_by_0 5 rfl rfl)
theorem dX7_by_6 : decode cX7_by 6 = .ok (.aload_n 0, 1) := dk_42 (dk_at dksX7_by_0 6 rfl rfl)
theorem dX7_by_7 : decode cX7_by 7 = .ok (.getfield 31, 3) := dk_180 0 31 (dk_at dksX7_by_0 7 rfl rfl)
theorem dX7_by_10 : decode cX7_by 10 = .ok (.if_icmp .gt 17, 3) := dk_163 0 17 (dk_at dksX7_by_0 10 rfl rfl)
theorem dX7_by_13 : decode cX7_by 13 = .ok (.aload_n 0, 1) := dk_42 (dk_at dksX7_by_0 13 rfl rfl)
theorem dX7_by_14 : decode cX7_by 14 = .ok (.getfield 20, 3) := dk_180 0 20 (dk_at dksX7_by_0 14 rfl rfl)
theorem dX7_by_17 : decode cX7_by 17 = .ok (.iload_n 1, 1) := dk_27 (dk_at dksX7_by_0 17 rfl rfl)
theorem dX7_by_18 : decode cX7_by 18 = .ok (.iconst 1, 1) := dk_4 (dk_at dksX7_by_0 18 rfl rfl)
theorem dX7_by_19 : decode cX7_by 19 = .ok (.isub, 1) := dk_100 (dk_at dksX7_by_0 19 rfl rfl)
theorem dX7_by_20 : decode cX7_by 20 = .ok (.aaload, 1) := dk_50 (dk_at dksX7_by_0 20 rfl rfl)
theorem dX7_by_21 : decode cX7_by 21 = .ok (.getfield 38, 3) := dk_180 0 38 (dk_at dksX7_by_0 21 rfl rfl)
theorem dX7_by_24 : decode cX7_by 24 = .ok (.ifCond .eq 7, 3) := dk_153 0 7 (dk_at dksX7_by_1 0 rfl rfl)
theorem dX7_by_27 : decode cX7_by 27 = .ok (.aload_n 0, 1) := dk_42 (dk_at dksX7_by_1 3 rfl rfl)
theorem dX7_by_28 : decode cX7_by 28 = .ok (.goto 15, 3) := dk_167 0 15 (dk_at dksX7_by_1 4 rfl rfl)
theorem dX7_by_31 : decode cX7_by 31 = .ok (.aload_n 0, 1) := dk_42 (dk_at dksX7_by_1 7 rfl rfl)
theorem dX7_by_32 : decode cX7_by 32 = .ok (.getfield 20, 3) := dk_180 0 20 (dk_at dksX7_by_1 8 rfl rfl)
theorem dX7_by_35 : decode cX7_by 35 = .ok (.iload_n 1, 1) := dk_27 (dk_at dksX7_by_1 11 rfl rfl)
theorem dX7_by_36 : decode cX7_by 36 = .ok (.iconst 1, 1) := dk_4 (dk_at dksX7_by_1 12 rfl rfl)
theorem dX7_by_37 : decode cX7_by 37 = .ok (.isub, 1) := dk_100 (dk_at dksX7_by_1 13 rfl rfl)
theorem dX7_by_38 : decode cX7_by 38 = .ok (.aaload, 1) := dk_50 (dk_at dksX7_by_1 14 rfl rfl)
theorem dX7_by_39 : decode cX7_by 39 = .ok (.aload_n 0, 1) := dk_42 (dk_at dksX7_by_1 15 rfl rfl)
theorem dX7_by_40 : decode cX7_by 40 = .ok (.invokevirtual 34, 3) := dk_182 0 34 (dk_at dksX7_by_1 16 rfl rfl)
theorem dX7_by_43 : decode cX7_by 43 = .ok (.areturn, 1) := dk_176 (dk_at dksX7_by_1 19 rfl rfl)
theorem q136 : (Jvm.Cond.initialized "TwoSeek$Place") ∈ lw_all := lw_g (lw_at lw_m1 21 rfl) rfl
theorem q774 : (Jvm.Cond.instantiable "TwoSeek$Place" (7 : Nat)) ∈ lw_all := lw_g (lw_at lw_m3 179 rfl) rfl
theorem q776 : (Jvm.Cond.instanceMethod ({ cls := "TwoSeek$Place", name := "<init>", desc := "(JI)V" } : Jvm.MethodName)) ∈ lw_all := lw_g (lw_at lw_m3 181 rfl) rfl
theorem q777 : (Jvm.Cond.code ({ cls := "TwoSeek$Place", name := "<init>", desc := "(JI)V" } : Jvm.MethodName) prog_6_method_1_code (4 : Nat) (Option.none : Option Jvm.ClassFile.FieldType)) ∈ lw_all := lw_g (lw_at lw_m3 182 rfl) rfl
theorem q778 : (Jvm.Cond.methodLink "TwoSeek$Place" (3 : Nat) ({ cls := "java/lang/Object", name := "<init>", desc := "()V" } : Jvm.MethodName)) ∈ lw_all := lw_g (lw_at lw_m3 183 rfl) rfl
theorem q779 : (Jvm.Cond.classLink "TwoSeek$Place" (18 : Nat) "TwoSeek$Lane") ∈ lw_all := lw_g (lw_at lw_m3 184 rfl) rfl
theorem q780 : (Jvm.Cond.fieldLink "TwoSeek$Place" (24 : Nat) "TwoSeek$Place" "name" "J") ∈ lw_all := lw_g (lw_at lw_m3 185 rfl) rfl
theorem q782 : (Jvm.Cond.fieldLink "TwoSeek$Place" (28 : Nat) "TwoSeek$Place" "number" "I") ∈ lw_all := lw_g (lw_at lw_m3 187 rfl) rfl
theorem q788 : (Jvm.Cond.fieldLink "TwoSeek$Place" (9 : Nat) "TwoSeek$Place" "first" "I") ∈ lw_all := lw_g (lw_at lw_m3 193 rfl) rfl
theorem q791 : (Jvm.Cond.fieldLink "TwoSeek$Place" (15 : Nat) "TwoSeek$Place" "second" "I") ∈ lw_all := lw_g (lw_at lw_m3 196 rfl) rfl
theorem q794 : (Jvm.Cond.fieldLink "TwoSeek$Place" (31 : Nat) "TwoSeek$Place" "many" "I") ∈ lw_all := lw_g (lw_at lw_m3 199 rfl) rfl
theorem q798 : (Jvm.Cond.fieldLink "TwoSeek$Place" (20 : Nat) "TwoSeek$Place" "lanes" "[LTwoSeek$Lane;") ∈ lw_all := lw_g (lw_at lw_m3 203 rfl) rfl
theorem q800 : (Jvm.Cond.laysFinal "TwoSeek$Place" "TwoSeek$Place" "name" "J") ∈ lw_all := lw_g (lw_at lw_m3 205 rfl) rfl
theorem q801 : (Jvm.Cond.soleField "TwoSeek$Place" "name") ∈ lw_all := lw_g (lw_at lw_m3 206 rfl) rfl
theorem q802 : (Jvm.Cond.laysFinal "TwoSeek$Place" "TwoSeek$Place" "number" "I") ∈ lw_all := lw_g (lw_at lw_m3 207 rfl) rfl
theorem q803 : (Jvm.Cond.soleField "TwoSeek$Place" "number") ∈ lw_all := lw_g (lw_at lw_m3 208 rfl) rfl
theorem q804 : (Jvm.Cond.lays "TwoSeek$Place" "TwoSeek$Place" "sight" "I") ∈ lw_all := lw_g (lw_at lw_m3 209 rfl) rfl
theorem q805 : (Jvm.Cond.soleField "TwoSeek$Place" "sight") ∈ lw_all := lw_g (lw_at lw_m3 210 rfl) rfl
theorem q806 : (Jvm.Cond.lays "TwoSeek$Place" "TwoSeek$Place" "first" "I") ∈ lw_all := lw_g (lw_at lw_m3 211 rfl) rfl
theorem q807 : (Jvm.Cond.soleField "TwoSeek$Place" "first") ∈ lw_all := lw_g (lw_at lw_m3 212 rfl) rfl
theorem q808 : (Jvm.Cond.lays "TwoSeek$Place" "TwoSeek$Place" "second" "I") ∈ lw_all := lw_g (lw_at lw_m3 213 rfl) rfl
theorem q809 : (Jvm.Cond.soleField "TwoSeek$Place" "second") ∈ lw_all := lw_g (lw_at lw_m3 214 rfl) rfl
theorem q810 : (Jvm.Cond.lays "TwoSeek$Place" "TwoSeek$Place" "many" "I") ∈ lw_all := lw_g (lw_at lw_m3 215 rfl) rfl
theorem q811 : (Jvm.Cond.soleField "TwoSeek$Place" "many") ∈ lw_all := lw_g (lw_at lw_m3 216 rfl) rfl
theorem q812 : (Jvm.Cond.laysFinal "TwoSeek$Place" "TwoSeek$Place" "lanes" "[LTwoSeek$Lane;") ∈ lw_all := lw_g (lw_at lw_m3 217 rfl) rfl
theorem q813 : (Jvm.Cond.soleField "TwoSeek$Place" "lanes") ∈ lw_all := lw_g (lw_at lw_m3 218 rfl) rfl
theorem q814 : (Jvm.Cond.superclass "TwoSeek$Place" "java/lang/Object") ∈ lw_all := lw_g (lw_at lw_m3 219 rfl) rfl
theorem q828 : (Jvm.Cond.instanceMethod ({ cls := "TwoSeek$Place", name := "leads", desc := "(LTwoSeek$Place;)Z" } : Jvm.MethodName)) ∈ lw_all := lw_g (lw_at lw_m3 233 rfl) rfl
theorem q829 : (Jvm.Cond.selects "TwoSeek$Place" ({ cls := "TwoSeek$Place", name := "leads", desc := "(LTwoSeek$Place;)Z" } : Jvm.MethodName) ({ cls := "TwoSeek$Place", name := "leads", desc := "(LTwoSeek$Place;)Z" } : Jvm.MethodName)) ∈ lw_all := lw_g (lw_at lw_m3 234 rfl) rfl
theorem q830 : (Jvm.Cond.code ({ cls := "TwoSeek$Place", name := "leads", desc := "(LTwoSeek$Place;)Z" } : Jvm.MethodName) prog_6_method_3_code (3 : Nat) (Option.some Jvm.ClassFile.FieldType.boolean)) ∈ lw_all := lw_g (lw_at lw_m3 235 rfl) rfl
theorem q831 : (Jvm.Cond.methodLink "TwoSeek$Place" (34 : Nat) ({ cls := "TwoSeek$Lane", name := "other", desc := "(LTwoSeek$Place;)LTwoSeek$Place;" } : Jvm.MethodName)) ∈ lw_all := lw_g (lw_at lw_m3 236 rfl) rfl
theorem q843 : (Jvm.Cond.fieldLinkNest "TwoSeek$Place" (38 : Nat) "TwoSeek$Lane" "isShut" "Z" "TwoSeek") ∈ lw_tbl := lw_at lw_m4 8 rfl
theorem q853 : (Jvm.Cond.instanceMethod ({ cls := "TwoSeek$Place", name := "add", desc := "(LTwoSeek$Lane;)V" } : Jvm.MethodName)) ∈ lw_all := lw_g (lw_at lw_m4 18 rfl) rfl
theorem q854 : (Jvm.Cond.selects "TwoSeek$Place" ({ cls := "TwoSeek$Place", name := "add", desc := "(LTwoSeek$Lane;)V" } : Jvm.MethodName) ({ cls := "TwoSeek$Place", name := "add", desc := "(LTwoSeek$Lane;)V" } : Jvm.MethodName)) ∈ lw_all := lw_g (lw_at lw_m4 19 rfl) rfl
theorem q855 : (Jvm.Cond.code ({ cls := "TwoSeek$Place", name := "add", desc := "(LTwoSeek$Lane;)V" } : Jvm.MethodName) prog_6_method_2_code (2 : Nat) (Option.none : Option Jvm.ClassFile.FieldType)) ∈ lw_all := lw_g (lw_at lw_m4 20 rfl) rfl
theorem q898 : (Jvm.Cond.instanceMethod ({ cls := "TwoSeek$Place", name := "by", desc := "(I)LTwoSeek$Place;" } : Jvm.MethodName)) ∈ lw_all := lw_g (lw_at lw_m4 63 rfl) rfl
theorem q899 : (Jvm.Cond.selects "TwoSeek$Place" ({ cls := "TwoSeek$Place", name := "by", desc := "(I)LTwoSeek$Place;" } : Jvm.MethodName) ({ cls := "TwoSeek$Place", name := "by", desc := "(I)LTwoSeek$Place;" } : Jvm.MethodName)) ∈ lw_all := lw_g (lw_at lw_m4 64 rfl) rfl
theorem q900 : (Jvm.Cond.code ({ cls := "TwoSeek$Place", name := "by", desc := "(I)LTwoSeek$Place;" } : Jvm.MethodName) prog_6_method_4_code (2 : Nat) (Option.some (Jvm.ClassFile.FieldType.object "TwoSeek$Place"))) ∈ lw_all := lw_g (lw_at lw_m4 65 rfl) rfl
theorem in_X7 : ∀ w ∈ wsX70, w ∈ lw_all := lw_in wsX70 [800, 802, 804, 806, 808, 810, 812] (by decide +kernel) (by decide +kernel)

/-! TwoSeek$Lane -/
set_option maxRecDepth 100000
def RX8 : String := "TwoSeek$Lane"
def TX8 : u_T := fun k => match k with
  | 0 => ("TwoSeek$Lane", "one", "LTwoSeek$Place;", true)
  | 1 => ("TwoSeek$Lane", "two", "LTwoSeek$Place;", true)
  | _ => ("TwoSeek$Lane", "isShut", "Z", false)
def tyX8 : Nat → FieldType := fun k => match k with
  | 0 => .object "TwoSeek$Place"
  | 1 => .object "TwoSeek$Place"
  | _ => .boolean
abbrev wsX80 : List Cond := u_ws RX8 TX8 3
theorem nmX8 : ∀ a, a < 3 → ∀ b, b < 3 → a ≠ b → (TX8 a).2.1 ≠ (TX8 b).2.1 := by decide +kernel
theorem tyX8_ok : ∀ k, k < 3 → parseFieldDescriptor (TX8 k).2.2.1 = some (tyX8 k) := by decide +kernel
abbrev cX8_other : ByteArray := prog_4_method_2_code
def yX8_other : MethodName := ⟨RX8, "other", "(LTwoSeek$Place;)LTwoSeek$Place;"⟩
def dkwX8_other_0 : List UInt8 := [43, 42, 180, 0, 7, 166, 0, 10, 42, 180, 0, 13, 167, 0, 7, 42, 180, 0, 7, 176]
abbrev dktX8_other_0 : List UInt8 := dkwX8_other_0 ++ []
theorem dksX8_other_0 : cX8_other.data.toList.drop 0 = dktX8_other_0 := by decide +kernel
theorem dX8_other_0 : decode cX8_other 0 = .ok (.aload_n 1, 1) := dk_43 (dk_at dksX8_other_0 0 rfl rfl)
theorem dX8_other_1 : decode cX8_other 1 = .ok (.aload_n 0, 1) := dk_42 (dk_at dksX8_other_0 1 rfl rfl)
theorem dX8_other_2 : decode cX8_other 2 = .ok (.getfield 7, 3) := dk_180 0 7 (dk_at dksX8_other_0 2 rfl rfl)
theorem dX8_other_5 : decode cX8_other 5 = .ok (.if_acmp .ne 10, 3) := dk_166 0 10 (dk_at dksX8_other_0 5 rfl rfl)
theorem dX8_other_8 : decode cX8_other 8 = .ok (.aload_n 0, 1) := dk_42 (dk_at dksX8_other_0 8 rfl rfl)
theorem dX8_other_9 : decode cX8_other 9 = .ok (.getfield 13, 3) := dk_180 0 13 (dk_at dksX8_other_0 9 rfl rfl)
theorem dX8_other_12 : decode cX8_other 12 = .ok (.goto 7, 3) := dk_167 0 7 (dk_at dksX8_other_0 12 rfl rfl)
theorem dX8_other_15 : decode cX8_other 15 = .ok (.aload_n 0, 1) := dk_42 (dk_at dksX8_other_0 15 rfl rfl)
theorem dX8_other_16 : decode cX8_other 16 = .ok (.getfield 7, 3) := dk_180 0 7 (dk_at dksX8_other_0 16 rfl rfl)
theorem dX8_other_19 : decode cX8_other 19 = .ok (.areturn, 1) := dk_176 (dk_at dksX8_other_0 19 rfl rfl)
abbrev cX8_init : ByteArray := prog_4_method_1_code
def yX8_init : MethodName := ⟨RX8, "<init>", "(LTwoSeek$Place;LTwoSeek$Place;)V"⟩
def dkwX8_init_0 : List UInt8 := [42, 183, 0, 1, 42, 43, 181, 0, 7, 42, 44, 181, 0, 13, 177]
abbrev dktX8_init_0 : List UInt8 := dkwX8_init_0 ++ []
theorem dksX8_init_0 : cX8_init.data.toList.drop 0 = dktX8_init_0 := by decide +kernel
theorem dX8_init_0 : decode cX8_init 0 = .ok (.aload_n 0, 1) := dk_42 (dk_at dksX8_init_0 0 rfl rfl)
theorem dX8_init_1 : decode cX8_init 1 = .ok (.invokespecial 1, 3) := dk_183 0 1 (dk_at dksX8_init_0 1 rfl rfl)
theorem dX8_init_4 : decode cX8_init 4 = .ok (.aload_n 0, 1) := dk_42 (dk_at dksX8_init_0 4 rfl rfl)
theorem dX8_init_5 : decode cX8_init 5 = .ok (.aload_n 1, 1) := dk_43 (dk_at dksX8_init_0 5 rfl rfl)
theorem dX8_init_6 : decode cX8_init 6 = .ok (.putfield 7, 3) := dk_181 0 7 (dk_at dksX8_init_0 6 rfl rfl)
theorem dX8_init_9 : decode cX8_init 9 = .ok (.aload_n 0, 1) := dk_42 (dk_at dksX8_init_0 9 rfl rfl)
theorem dX8_init_10 : decode cX8_init 10 = .ok (.aload_n 2, 1) := dk_44 (dk_at dksX8_init_0 10 rfl rfl)
theorem dX8_init_11 : decode cX8_init 11 = .ok (.putfield 13, 3) := dk_181 0 13 (dk_at dksX8_init_0 11 rfl rfl)
theorem dX8_init_14 : decode cX8_init 14 = .ok (.return_, 1) := dk_177 (dk_at dksX8_init_0 14 rfl rfl)
theorem q137 : (Jvm.Cond.initialized "TwoSeek$Lane") ∈ lw_all := lw_g (lw_at lw_m1 22 rfl) rfl
theorem q832 : (Jvm.Cond.instanceMethod ({ cls := "TwoSeek$Lane", name := "other", desc := "(LTwoSeek$Place;)LTwoSeek$Place;" } : Jvm.MethodName)) ∈ lw_all := lw_g (lw_at lw_m3 237 rfl) rfl
theorem q833 : (Jvm.Cond.selects "TwoSeek$Lane" ({ cls := "TwoSeek$Lane", name := "other", desc := "(LTwoSeek$Place;)LTwoSeek$Place;" } : Jvm.MethodName) ({ cls := "TwoSeek$Lane", name := "other", desc := "(LTwoSeek$Place;)LTwoSeek$Place;" } : Jvm.MethodName)) ∈ lw_all := lw_g (lw_at lw_m3 238 rfl) rfl
theorem q834 : (Jvm.Cond.code ({ cls := "TwoSeek$Lane", name := "other", desc := "(LTwoSeek$Place;)LTwoSeek$Place;" } : Jvm.MethodName) prog_4_method_2_code (2 : Nat) (Option.some (Jvm.ClassFile.FieldType.object "TwoSeek$Place"))) ∈ lw_all := lw_g (lw_at lw_m3 239 rfl) rfl
theorem q836 : (Jvm.Cond.instantiable "TwoSeek$Lane" (3 : Nat)) ∈ lw_all := lw_g (lw_at lw_m4 1 rfl) rfl
theorem q838 : (Jvm.Cond.instanceMethod ({ cls := "TwoSeek$Lane", name := "<init>", desc := "(LTwoSeek$Place;LTwoSeek$Place;)V" } : Jvm.MethodName)) ∈ lw_all := lw_g (lw_at lw_m4 3 rfl) rfl
theorem q839 : (Jvm.Cond.code ({ cls := "TwoSeek$Lane", name := "<init>", desc := "(LTwoSeek$Place;LTwoSeek$Place;)V" } : Jvm.MethodName) prog_4_method_1_code (3 : Nat) (Option.none : Option Jvm.ClassFile.FieldType)) ∈ lw_all := lw_g (lw_at lw_m4 4 rfl) rfl
theorem q840 : (Jvm.Cond.methodLink "TwoSeek$Lane" (1 : Nat) ({ cls := "java/lang/Object", name := "<init>", desc := "()V" } : Jvm.MethodName)) ∈ lw_all := lw_g (lw_at lw_m4 5 rfl) rfl
theorem q841 : (Jvm.Cond.fieldLink "TwoSeek$Lane" (7 : Nat) "TwoSeek$Lane" "one" "LTwoSeek$Place;") ∈ lw_all := lw_g (lw_at lw_m4 6 rfl) rfl
theorem q842 : (Jvm.Cond.fieldLink "TwoSeek$Lane" (13 : Nat) "TwoSeek$Lane" "two" "LTwoSeek$Place;") ∈ lw_all := lw_g (lw_at lw_m4 7 rfl) rfl
theorem q845 : (Jvm.Cond.laysFinal "TwoSeek$Lane" "TwoSeek$Lane" "one" "LTwoSeek$Place;") ∈ lw_all := lw_g (lw_at lw_m4 10 rfl) rfl
theorem q846 : (Jvm.Cond.soleField "TwoSeek$Lane" "one") ∈ lw_all := lw_g (lw_at lw_m4 11 rfl) rfl
theorem q847 : (Jvm.Cond.laysFinal "TwoSeek$Lane" "TwoSeek$Lane" "two" "LTwoSeek$Place;") ∈ lw_all := lw_g (lw_at lw_m4 12 rfl) rfl
theorem q848 : (Jvm.Cond.soleField "TwoSeek$Lane" "two") ∈ lw_all := lw_g (lw_at lw_m4 13 rfl) rfl
theorem q849 : (Jvm.Cond.lays "TwoSeek$Lane" "TwoSeek$Lane" "isShut" "Z") ∈ lw_all := lw_g (lw_at lw_m4 14 rfl) rfl
theorem q850 : (Jvm.Cond.soleField "TwoSeek$Lane" "isShut") ∈ lw_all := lw_g (lw_at lw_m4 15 rfl) rfl
theorem q851 : (Jvm.Cond.superclass "TwoSeek$Lane" "java/lang/Object") ∈ lw_all := lw_g (lw_at lw_m4 16 rfl) rfl
theorem in_X8 : ∀ w ∈ wsX80, w ∈ lw_all := lw_in wsX80 [845, 847, 849] (by decide +kernel) (by decide +kernel)

/-! TwoSeek$Way -/
set_option maxRecDepth 100000
def RX9 : String := "TwoSeek$Way"
abbrev cX9_init : ByteArray := prog_12_method_1_code
def yX9_init : MethodName := ⟨RX9, "<init>", "([I)V"⟩
def dkwX9_init_0 : List UInt8 := [42, 183, 0, 1, 42, 43, 181, 0, 7, 177]
abbrev dktX9_init_0 : List UInt8 := dkwX9_init_0 ++ []
theorem dksX9_init_0 : cX9_init.data.toList.drop 0 = dktX9_init_0 := by decide +kernel
theorem dX9_init_0 : decode cX9_init 0 = .ok (.aload_n 0, 1) := dk_42 (dk_at dksX9_init_0 0 rfl rfl)
theorem dX9_init_1 : decode cX9_init 1 = .ok (.invokespecial 1, 3) := dk_183 0 1 (dk_at dksX9_init_0 1 rfl rfl)
theorem dX9_init_4 : decode cX9_init 4 = .ok (.aload_n 0, 1) := dk_42 (dk_at dksX9_init_0 4 rfl rfl)
theorem dX9_init_5 : decode cX9_init 5 = .ok (.aload_n 1, 1) := dk_43 (dk_at dksX9_init_0 5 rfl rfl)
theorem dX9_init_6 : decode cX9_init 6 = .ok (.putfield 7, 3) := dk_181 0 7 (dk_at dksX9_init_0 6 rfl rfl)
theorem dX9_init_9 : decode cX9_init 9 = .ok (.return_, 1) := dk_177 (dk_at dksX9_init_0 9 rfl rfl)
abbrev cX9_goesOn : ByteArray := prog_12_method_2_code
def yX9_goesOn : MethodName := ⟨RX9, "goesOn", "(LTwoSeek$Walker;)V"⟩
def dkwX9_goesOn_0 : List UInt8 := [43, 89, 180, 0, 13, 4, 96, 181, 0, 13, 177]
abbrev dktX9_goesOn_0 : List UInt8 := dkwX9_goesOn_0 ++ []
theorem dksX9_goesOn_0 : cX9_goesOn.data.toList.drop 0 = dktX9_goesOn_0 := by decide +kernel
theorem dX9_goesOn_0 : decode cX9_goesOn 0 = .ok (.aload_n 1, 1) := dk_43 (dk_at dksX9_goesOn_0 0 rfl rfl)
theorem dX9_goesOn_1 : decode cX9_goesOn 1 = .ok (.dup, 1) := dk_89 (dk_at dksX9_goesOn_0 1 rfl rfl)
theorem dX9_goesOn_2 : decode cX9_goesOn 2 = .ok (.getfield 13, 3) := dk_180 0 13 (dk_at dksX9_goesOn_0 2 rfl rfl)
theorem dX9_goesOn_5 : decode cX9_goesOn 5 = .ok (.iconst 1, 1) := dk_4 (dk_at dksX9_goesOn_0 5 rfl rfl)
theorem dX9_goesOn_6 : decode cX9_goesOn 6 = .ok (.iadd, 1) := dk_96 (dk_at dksX9_goesOn_0 6 rfl rfl)
theorem dX9_goesOn_7 : decode cX9_goesOn 7 = .ok (.putfield 13, 3) := dk_181 0 13 (dk_at dksX9_goesOn_0 7 rfl rfl)
theorem dX9_goesOn_10 : decode cX9_goesOn 10 = .ok (.return_, 1) := dk_177 (dk_at dksX9_goesOn_0 10 rfl rfl)
theorem q138 : (Jvm.Cond.initialized "TwoSeek$Way") ∈ lw_all := lw_g (lw_at lw_m1 23 rfl) rfl
theorem q293 : (Jvm.Cond.fieldLinkNest "TwoSeek$Way" (13 : Nat) "TwoSeek$Walker" "done" "I" "TwoSeek") ∈ lw_tbl := lw_at lw_m1 178 rfl
theorem q930 : (Jvm.Cond.instanceMethod ({ cls := "TwoSeek$Way", name := "<init>", desc := "([I)V" } : Jvm.MethodName)) ∈ lw_all := lw_g (lw_at lw_m4 95 rfl) rfl
theorem q931 : (Jvm.Cond.code ({ cls := "TwoSeek$Way", name := "<init>", desc := "([I)V" } : Jvm.MethodName) prog_12_method_1_code (2 : Nat) (Option.none : Option Jvm.ClassFile.FieldType)) ∈ lw_all := lw_g (lw_at lw_m4 96 rfl) rfl
theorem q932 : (Jvm.Cond.methodLink "TwoSeek$Way" (1 : Nat) ({ cls := "java/lang/Object", name := "<init>", desc := "()V" } : Jvm.MethodName)) ∈ lw_all := lw_g (lw_at lw_m4 97 rfl) rfl
theorem q933 : (Jvm.Cond.fieldLink "TwoSeek$Way" (7 : Nat) "TwoSeek$Way" "row" "[I") ∈ lw_all := lw_g (lw_at lw_m4 98 rfl) rfl
theorem q941 : (Jvm.Cond.soleField "TwoSeek$Way" "row") ∈ lw_all := lw_g (lw_at lw_m4 106 rfl) rfl
theorem q986 : (Jvm.Cond.superclass "TwoSeek$Way" "java/lang/Object") ∈ lw_all := lw_g (lw_at lw_m4 151 rfl) rfl
theorem q1005 : (Jvm.Cond.instanceMethod ({ cls := "TwoSeek$Way", name := "goesOn", desc := "(LTwoSeek$Walker;)V" } : Jvm.MethodName)) ∈ lw_all := lw_g (lw_at lw_m4 170 rfl) rfl
theorem q1006 : (Jvm.Cond.sameMethod "TwoSeek$Way" "TwoSeek$Way" "goesOn" "(LTwoSeek$Walker;)V") ∈ lw_all := lw_g (lw_at lw_m4 171 rfl) rfl
theorem q1012 : (Jvm.Cond.declares ({ cls := "TwoSeek$Way", name := "goesOn", desc := "(LTwoSeek$Walker;)V" } : Jvm.MethodName)) ∈ lw_tbl := lw_at lw_m4 177 rfl
theorem q1018 : (Jvm.Cond.code ({ cls := "TwoSeek$Way", name := "goesOn", desc := "(LTwoSeek$Walker;)V" } : Jvm.MethodName) prog_12_method_2_code (2 : Nat) (Option.none : Option Jvm.ClassFile.FieldType)) ∈ lw_all := lw_g (lw_at lw_m4 183 rfl) rfl

/-! TwoSeek$Hourly -/
set_option maxRecDepth 100000
def RX10 : String := "TwoSeek$Hourly"
def TX10 : u_T := fun k => match k with
  | _ => ("TwoSeek$Way", "row", "[I", true)
def tyX10 : Nat → FieldType := fun k => match k with
  | _ => .array .int
abbrev wsX100 : List Cond := u_ws RX10 TX10 1
theorem nmX10 : ∀ a, a < 1 → ∀ b, b < 1 → a ≠ b → (TX10 a).2.1 ≠ (TX10 b).2.1 := by decide +kernel
theorem tyX10_ok : ∀ k, k < 1 → parseFieldDescriptor (TX10 k).2.2.1 = some (tyX10 k) := by decide +kernel
abbrev cX10_init : ByteArray := prog_3_method_1_code
def yX10_init : MethodName := ⟨RX10, "<init>", "([I)V"⟩
def dkwX10_init_0 : List UInt8 := [42, 43, 183, 0, 1, 177]
abbrev dktX10_init_0 : List UInt8 := dkwX10_init_0 ++ []
theorem dksX10_init_0 : cX10_init.data.toList.drop 0 = dktX10_init_0 := by decide +kernel
theorem dX10_init_0 : decode cX10_init 0 = .ok (.aload_n 0, 1) := dk_42 (dk_at dksX10_init_0 0 rfl rfl)
theorem dX10_init_1 : decode cX10_init 1 = .ok (.aload_n 1, 1) := dk_43 (dk_at dksX10_init_0 1 rfl rfl)
theorem dX10_init_2 : decode cX10_init 2 = .ok (.invokespecial 1, 3) := dk_183 0 1 (dk_at dksX10_init_0 2 rfl rfl)
theorem dX10_init_5 : decode cX10_init 5 = .ok (.return_, 1) := dk_177 (dk_at dksX10_init_0 5 rfl rfl)
abbrev cX10_step : ByteArray := prog_3_method_2_code
def yX10_step : MethodName := ⟨RX10, "step", "(LTwoSeek$Walker;)I"⟩
def dkwX10_step_1 : List UInt8 := [3, 172]
abbrev dktX10_step_1 : List UInt8 := dkwX10_step_1 ++ []
def dkwX10_step_0 : List UInt8 := [43, 180, 0, 7, 42, 180, 0, 13, 190, 162, 0, 15, 42, 180, 0, 13, 43, 180, 0, 7, 46, 167, 0, 4]
abbrev dktX10_step_0 : List UInt8 := dkwX10_step_0 ++ dktX10_step_1
theorem dksX10_step_0 : cX10_step.data.toList.drop 0 = dktX10_step_0 := by decide +kernel
theorem dksX10_step_1 : cX10_step.data.toList.drop 24 = dktX10_step_1 := dk_seg dksX10_step_0 24 rfl rfl
theorem dX10_step_0 : decode cX10_step 0 = .ok (.aload_n 1, 1) := dk_43 (dk_at dksX10_step_0 0 rfl rfl)
theorem dX10_step_1 : decode cX10_step 1 = .ok (.getfield 7, 3) := dk_180 0 7 (dk_at dksX10_step_0 1 rfl rfl)
theorem dX10_step_4 : decode cX10_step 4 = .ok (.aload_n 0, 1) := dk_42 (dk_at dksX10_step_0 4 rfl rfl)
theorem dX10_step_5 : decode cX10_step 5 = .ok (.getfield 13, 3) := dk_180 0 13 (dk_at dksX10_step_0 5 rfl rfl)
theorem dX10_step_8 : decode cX10_step 8 = .ok (.arraylength, 1) := dk_190 (dk_at dksX10_step_0 8 rfl rfl)
theorem dX10_step_9 : decode cX10_step 9 = .ok (.if_icmp .ge 15, 3) := dk_162 0 15 (dk_at dksX10_step_0 9 rfl rfl)
theorem dX10_step_12 : decode cX10_step 12 = .ok (.aload_n 0, 1) := dk_42 (dk_at dksX10_step_0 12 rfl rfl)
theorem dX10_step_13 : decode cX10_step 13 = .ok (.getfield 13, 3) := dk_180 0 13 (dk_at dksX10_step_0 13 rfl rfl)
theorem dX10_step_16 : decode cX10_step 16 = .ok (.aload_n 1, 1) := dk_43 (dk_at dksX10_step_0 16 rfl rfl)
theorem dX10_step_17 : decode cX10_step 17 = .ok (.getfield 7, 3) := dk_180 0 7 (dk_at dksX10_step_0 17 rfl rfl)
theorem dX10_step_20 : decode cX10_step 20 = .ok (.iaload, 1) := dk_46 (dk_at dksX10_step_0 20 rfl rfl)
theorem dX10_step_21 : decode cX10_step 21 = .ok (.goto 4, 3) := dk_167 0 4 (dk_at dksX10_step_0 21 rfl rfl)
theorem dX10_step_24 : decode cX10_step 24 = .ok (.iconst 0, 1) := dk_3 (dk_at dksX10_step_1 0 rfl rfl)
theorem dX10_step_25 : decode cX10_step 25 = .ok (.ireturn, 1) := dk_172 (dk_at dksX10_step_1 1 rfl rfl)
theorem q139 : (Jvm.Cond.initialized "TwoSeek$Hourly") ∈ lw_all := lw_g (lw_at lw_m1 24 rfl) rfl
theorem q292 : (Jvm.Cond.fieldLinkNest "TwoSeek$Hourly" (7 : Nat) "TwoSeek$Walker" "done" "I" "TwoSeek") ∈ lw_tbl := lw_at lw_m1 177 rfl
theorem q927 : (Jvm.Cond.instanceMethod ({ cls := "TwoSeek$Hourly", name := "<init>", desc := "([I)V" } : Jvm.MethodName)) ∈ lw_all := lw_g (lw_at lw_m4 92 rfl) rfl
theorem q928 : (Jvm.Cond.code ({ cls := "TwoSeek$Hourly", name := "<init>", desc := "([I)V" } : Jvm.MethodName) prog_3_method_1_code (2 : Nat) (Option.none : Option Jvm.ClassFile.FieldType)) ∈ lw_all := lw_g (lw_at lw_m4 93 rfl) rfl
theorem q929 : (Jvm.Cond.methodLink "TwoSeek$Hourly" (1 : Nat) ({ cls := "TwoSeek$Way", name := "<init>", desc := "([I)V" } : Jvm.MethodName)) ∈ lw_all := lw_g (lw_at lw_m4 94 rfl) rfl
theorem q936 : (Jvm.Cond.fieldLink "TwoSeek$Hourly" (13 : Nat) "TwoSeek$Hourly" "row" "[I") ∈ lw_all := lw_g (lw_at lw_m4 101 rfl) rfl
theorem q937 : (Jvm.Cond.sameField "TwoSeek$Hourly" "TwoSeek$Way" "row" "[I") ∈ lw_all := lw_g (lw_at lw_m4 102 rfl) rfl
theorem q944 : (Jvm.Cond.instantiable "TwoSeek$Hourly" (1 : Nat)) ∈ lw_all := lw_g (lw_at lw_m4 109 rfl) rfl
theorem q946 : (Jvm.Cond.laysFinal "TwoSeek$Hourly" "TwoSeek$Way" "row" "[I") ∈ lw_all := lw_g (lw_at lw_m4 111 rfl) rfl
theorem q947 : (Jvm.Cond.superclass "TwoSeek$Hourly" "TwoSeek$Way") ∈ lw_all := lw_g (lw_at lw_m4 112 rfl) rfl
theorem q989 : (Jvm.Cond.instanceMethod ({ cls := "TwoSeek$Hourly", name := "step", desc := "(LTwoSeek$Walker;)I" } : Jvm.MethodName)) ∈ lw_all := lw_g (lw_at lw_m4 154 rfl) rfl
theorem q990 : (Jvm.Cond.code ({ cls := "TwoSeek$Hourly", name := "step", desc := "(LTwoSeek$Walker;)I" } : Jvm.MethodName) prog_3_method_2_code (2 : Nat) (Option.some Jvm.ClassFile.FieldType.int)) ∈ lw_all := lw_g (lw_at lw_m4 155 rfl) rfl
theorem q991 : (Jvm.Cond.selects "TwoSeek$Hourly" ({ cls := "TwoSeek$Leads", name := "step", desc := "(LTwoSeek$Walker;)I" } : Jvm.MethodName) ({ cls := "TwoSeek$Hourly", name := "step", desc := "(LTwoSeek$Walker;)I" } : Jvm.MethodName)) ∈ lw_all := lw_g (lw_at lw_m4 156 rfl) rfl
theorem q1011 : (Jvm.Cond.sameMethod "TwoSeek$Hourly" "TwoSeek$Way" "goesOn" "(LTwoSeek$Walker;)V") ∈ lw_all := lw_g (lw_at lw_m4 176 rfl) rfl
theorem q1013 : (Jvm.Cond.selects "TwoSeek$Hourly" ({ cls := "TwoSeek$Way", name := "goesOn", desc := "(LTwoSeek$Walker;)V" } : Jvm.MethodName) ({ cls := "TwoSeek$Way", name := "goesOn", desc := "(LTwoSeek$Walker;)V" } : Jvm.MethodName)) ∈ lw_all := lw_g (lw_at lw_m4 178 rfl) rfl
theorem q1870 : (Jvm.Cond.castable "TwoSeek$Hourly" "TwoSeek$Way") ∈ lw_tbl := lw_at lw_m8 75 rfl
theorem in_X10 : ∀ w ∈ wsX100, w ∈ lw_all := lw_in wsX100 [946] (by decide +kernel) (by decide +kernel)

/-! TwoSeek$Again -/
set_option maxRecDepth 100000
def RX11 : String := "TwoSeek$Again"
def TX11 : u_T := fun k => match k with
  | _ => ("TwoSeek$Way", "row", "[I", true)
def tyX11 : Nat → FieldType := fun k => match k with
  | _ => .array .int
abbrev wsX110 : List Cond := u_ws RX11 TX11 1
theorem nmX11 : ∀ a, a < 1 → ∀ b, b < 1 → a ≠ b → (TX11 a).2.1 ≠ (TX11 b).2.1 := by decide +kernel
theorem tyX11_ok : ∀ k, k < 1 → parseFieldDescriptor (TX11 k).2.2.1 = some (tyX11 k) := by decide +kernel
abbrev cX11_init : ByteArray := prog_2_method_1_code
def yX11_init : MethodName := ⟨RX11, "<init>", "([I)V"⟩
def dkwX11_init_0 : List UInt8 := [42, 43, 183, 0, 1, 177]
abbrev dktX11_init_0 : List UInt8 := dkwX11_init_0 ++ []
theorem dksX11_init_0 : cX11_init.data.toList.drop 0 = dktX11_init_0 := by decide +kernel
theorem dX11_init_0 : decode cX11_init 0 = .ok (.aload_n 0, 1) := dk_42 (dk_at dksX11_init_0 0 rfl rfl)
theorem dX11_init_1 : decode cX11_init 1 = .ok (.aload_n 1, 1) := dk_43 (dk_at dksX11_init_0 1 rfl rfl)
theorem dX11_init_2 : decode cX11_init 2 = .ok (.invokespecial 1, 3) := dk_183 0 1 (dk_at dksX11_init_0 2 rfl rfl)
theorem dX11_init_5 : decode cX11_init 5 = .ok (.return_, 1) := dk_177 (dk_at dksX11_init_0 5 rfl rfl)
abbrev cX11_goesOn : ByteArray := prog_2_method_2_code
def yX11_goesOn : MethodName := ⟨RX11, "goesOn", "(LTwoSeek$Walker;)V"⟩
def dkwX11_goesOn_0 : List UInt8 := [42, 43, 183, 0, 7, 43, 180, 0, 11, 42, 180, 0, 17, 190, 160, 0, 8, 43, 3, 181, 0, 11, 177]
abbrev dktX11_goesOn_0 : List UInt8 := dkwX11_goesOn_0 ++ []
theorem dksX11_goesOn_0 : cX11_goesOn.data.toList.drop 0 = dktX11_goesOn_0 := by decide +kernel
theorem dX11_goesOn_0 : decode cX11_goesOn 0 = .ok (.aload_n 0, 1) := dk_42 (dk_at dksX11_goesOn_0 0 rfl rfl)
theorem dX11_goesOn_1 : decode cX11_goesOn 1 = .ok (.aload_n 1, 1) := dk_43 (dk_at dksX11_goesOn_0 1 rfl rfl)
theorem dX11_goesOn_2 : decode cX11_goesOn 2 = .ok (.invokespecial 7, 3) := dk_183 0 7 (dk_at dksX11_goesOn_0 2 rfl rfl)
theorem dX11_goesOn_5 : decode cX11_goesOn 5 = .ok (.aload_n 1, 1) := dk_43 (dk_at dksX11_goesOn_0 5 rfl rfl)
theorem dX11_goesOn_6 : decode cX11_goesOn 6 = .ok (.getfield 11, 3) := dk_180 0 11 (dk_at dksX11_goesOn_0 6 rfl rfl)
theorem dX11_goesOn_9 : decode cX11_goesOn 9 = .ok (.aload_n 0, 1) := dk_42 (dk_at dksX11_goesOn_0 9 rfl rfl)
theorem dX11_goesOn_10 : decode cX11_goesOn 10 = .ok (.getfield 17, 3) := dk_180 0 17 (dk_at dksX11_goesOn_0 10 rfl rfl)
theorem dX11_goesOn_13 : decode cX11_goesOn 13 = .ok (.arraylength, 1) := dk_190 (dk_at dksX11_goesOn_0 13 rfl rfl)
theorem dX11_goesOn_14 : decode cX11_goesOn 14 = .ok (.if_icmp .ne 8, 3) := dk_160 0 8 (dk_at dksX11_goesOn_0 14 rfl rfl)
theorem dX11_goesOn_17 : decode cX11_goesOn 17 = .ok (.aload_n 1, 1) := dk_43 (dk_at dksX11_goesOn_0 17 rfl rfl)
theorem dX11_goesOn_18 : decode cX11_goesOn 18 = .ok (.iconst 0, 1) := dk_3 (dk_at dksX11_goesOn_0 18 rfl rfl)
theorem dX11_goesOn_19 : decode cX11_goesOn 19 = .ok (.putfield 11, 3) := dk_181 0 11 (dk_at dksX11_goesOn_0 19 rfl rfl)
theorem dX11_goesOn_22 : decode cX11_goesOn 22 = .ok (.return_, 1) := dk_177 (dk_at dksX11_goesOn_0 22 rfl rfl)
theorem q140 : (Jvm.Cond.initialized "TwoSeek$Again") ∈ lw_all := lw_g (lw_at lw_m1 25 rfl) rfl
theorem q294 : (Jvm.Cond.fieldLinkNest "TwoSeek$Again" (11 : Nat) "TwoSeek$Walker" "done" "I" "TwoSeek") ∈ lw_tbl := lw_at lw_m1 179 rfl
theorem q922 : (Jvm.Cond.instantiable "TwoSeek$Again" (1 : Nat)) ∈ lw_all := lw_g (lw_at lw_m4 87 rfl) rfl
theorem q924 : (Jvm.Cond.instanceMethod ({ cls := "TwoSeek$Again", name := "<init>", desc := "([I)V" } : Jvm.MethodName)) ∈ lw_all := lw_g (lw_at lw_m4 89 rfl) rfl
theorem q925 : (Jvm.Cond.code ({ cls := "TwoSeek$Again", name := "<init>", desc := "([I)V" } : Jvm.MethodName) prog_2_method_1_code (2 : Nat) (Option.none : Option Jvm.ClassFile.FieldType)) ∈ lw_all := lw_g (lw_at lw_m4 90 rfl) rfl
theorem q926 : (Jvm.Cond.methodLink "TwoSeek$Again" (1 : Nat) ({ cls := "TwoSeek$Hourly", name := "<init>", desc := "([I)V" } : Jvm.MethodName)) ∈ lw_all := lw_g (lw_at lw_m4 91 rfl) rfl
theorem q938 : (Jvm.Cond.fieldLink "TwoSeek$Again" (17 : Nat) "TwoSeek$Again" "row" "[I") ∈ lw_all := lw_g (lw_at lw_m4 103 rfl) rfl
theorem q939 : (Jvm.Cond.sameField "TwoSeek$Again" "TwoSeek$Way" "row" "[I") ∈ lw_all := lw_g (lw_at lw_m4 104 rfl) rfl
theorem q940 : (Jvm.Cond.laysFinal "TwoSeek$Again" "TwoSeek$Way" "row" "[I") ∈ lw_all := lw_g (lw_at lw_m4 105 rfl) rfl
theorem q942 : (Jvm.Cond.superclass "TwoSeek$Again" "TwoSeek$Hourly") ∈ lw_all := lw_g (lw_at lw_m4 107 rfl) rfl
theorem q988 : (Jvm.Cond.selects "TwoSeek$Again" ({ cls := "TwoSeek$Leads", name := "step", desc := "(LTwoSeek$Walker;)I" } : Jvm.MethodName) ({ cls := "TwoSeek$Hourly", name := "step", desc := "(LTwoSeek$Walker;)I" } : Jvm.MethodName)) ∈ lw_all := lw_g (lw_at lw_m4 153 rfl) rfl
theorem q1007 : (Jvm.Cond.selects "TwoSeek$Again" ({ cls := "TwoSeek$Way", name := "goesOn", desc := "(LTwoSeek$Walker;)V" } : Jvm.MethodName) ({ cls := "TwoSeek$Again", name := "goesOn", desc := "(LTwoSeek$Walker;)V" } : Jvm.MethodName)) ∈ lw_all := lw_g (lw_at lw_m4 172 rfl) rfl
theorem q1008 : (Jvm.Cond.instanceMethod ({ cls := "TwoSeek$Again", name := "goesOn", desc := "(LTwoSeek$Walker;)V" } : Jvm.MethodName)) ∈ lw_all := lw_g (lw_at lw_m4 173 rfl) rfl
theorem q1009 : (Jvm.Cond.code ({ cls := "TwoSeek$Again", name := "goesOn", desc := "(LTwoSeek$Walker;)V" } : Jvm.MethodName) prog_2_method_2_code (2 : Nat) (Option.none : Option Jvm.ClassFile.FieldType)) ∈ lw_all := lw_g (lw_at lw_m4 174 rfl) rfl
theorem q1010 : (Jvm.Cond.methodLink "TwoSeek$Again" (7 : Nat) ({ cls := "TwoSeek$Hourly", name := "goesOn", desc := "(LTwoSeek$Walker;)V" } : Jvm.MethodName)) ∈ lw_all := lw_g (lw_at lw_m4 175 rfl) rfl
theorem q1869 : (Jvm.Cond.castable "TwoSeek$Again" "TwoSeek$Way") ∈ lw_tbl := lw_at lw_m8 74 rfl
theorem in_X11 : ∀ w ∈ wsX110, w ∈ lw_all := lw_in wsX110 [940] (by decide +kernel) (by decide +kernel)

/-! TwoSeek$Sight -/
set_option maxRecDepth 100000
def RX12 : String := "TwoSeek$Sight"
def TX12 : u_T := fun k => match k with
  | _ => ("TwoSeek$Way", "row", "[I", true)
def tyX12 : Nat → FieldType := fun k => match k with
  | _ => .array .int
abbrev wsX120 : List Cond := u_ws RX12 TX12 1
theorem nmX12 : ∀ a, a < 1 → ∀ b, b < 1 → a ≠ b → (TX12 a).2.1 ≠ (TX12 b).2.1 := by decide +kernel
theorem tyX12_ok : ∀ k, k < 1 → parseFieldDescriptor (TX12 k).2.2.1 = some (tyX12 k) := by decide +kernel
abbrev cX12_init : ByteArray := prog_8_method_1_code
def yX12_init : MethodName := ⟨RX12, "<init>", "([I)V"⟩
def dkwX12_init_0 : List UInt8 := [42, 43, 183, 0, 3, 177]
abbrev dktX12_init_0 : List UInt8 := dkwX12_init_0 ++ []
theorem dksX12_init_0 : cX12_init.data.toList.drop 0 = dktX12_init_0 := by decide +kernel
theorem dX12_init_0 : decode cX12_init 0 = .ok (.aload_n 0, 1) := dk_42 (dk_at dksX12_init_0 0 rfl rfl)
theorem dX12_init_1 : decode cX12_init 1 = .ok (.aload_n 1, 1) := dk_43 (dk_at dksX12_init_0 1 rfl rfl)
theorem dX12_init_2 : decode cX12_init 2 = .ok (.invokespecial 3, 3) := dk_183 0 3 (dk_at dksX12_init_0 2 rfl rfl)
theorem dX12_init_5 : decode cX12_init 5 = .ok (.return_, 1) := dk_177 (dk_at dksX12_init_0 5 rfl rfl)
abbrev cX12_step : ByteArray := prog_8_method_3_code
def yX12_step : MethodName := ⟨RX12, "step", "(LTwoSeek$Walker;)I"⟩
def dkwX12_step_0 : List UInt8 := [42, 43, 182, 0, 30, 8, 112, 172]
abbrev dktX12_step_0 : List UInt8 := dkwX12_step_0 ++ []
theorem dksX12_step_0 : cX12_step.data.toList.drop 0 = dktX12_step_0 := by decide +kernel
theorem dX12_step_0 : decode cX12_step 0 = .ok (.aload_n 0, 1) := dk_42 (dk_at dksX12_step_0 0 rfl rfl)
theorem dX12_step_1 : decode cX12_step 1 = .ok (.aload_n 1, 1) := dk_43 (dk_at dksX12_step_0 1 rfl rfl)
theorem dX12_step_2 : decode cX12_step 2 = .ok (.invokevirtual 30, 3) := dk_182 0 30 (dk_at dksX12_step_0 2 rfl rfl)
theorem dX12_step_5 : decode cX12_step 5 = .ok (.iconst 5, 1) := dk_8 (dk_at dksX12_step_0 5 rfl rfl)
theorem dX12_step_6 : decode cX12_step 6 = .ok (.irem, 1) := dk_112 (dk_at dksX12_step_0 6 rfl rfl)
theorem dX12_step_7 : decode cX12_step 7 = .ok (.ireturn, 1) := dk_172 (dk_at dksX12_step_0 7 rfl rfl)
abbrev cX12_told : ByteArray := prog_8_method_2_code
def yX12_told : MethodName := ⟨RX12, "told", "(LTwoSeek$Walker;)I"⟩
def dkwX12_told_0 : List UInt8 := [42, 180, 0, 9, 16, 6, 43, 180, 0, 15, 104, 43, 180, 0, 21, 180, 0, 25, 96, 46, 172]
abbrev dktX12_told_0 : List UInt8 := dkwX12_told_0 ++ []
theorem dksX12_told_0 : cX12_told.data.toList.drop 0 = dktX12_told_0 := by decide +kernel
theorem dX12_told_0 : decode cX12_told 0 = .ok (.aload_n 0, 1) := dk_42 (dk_at dksX12_told_0 0 rfl rfl)
theorem dX12_told_1 : decode cX12_told 1 = .ok (.getfield 9, 3) := dk_180 0 9 (dk_at dksX12_told_0 1 rfl rfl)
theorem dX12_told_4 : decode cX12_told 4 = .ok (.bipush 6, 2) := dk_16 6 (dk_at dksX12_told_0 4 rfl rfl)
theorem dX12_told_6 : decode cX12_told 6 = .ok (.aload_n 1, 1) := dk_43 (dk_at dksX12_told_0 6 rfl rfl)
theorem dX12_told_7 : decode cX12_told 7 = .ok (.getfield 15, 3) := dk_180 0 15 (dk_at dksX12_told_0 7 rfl rfl)
theorem dX12_told_10 : decode cX12_told 10 = .ok (.imul, 1) := dk_104 (dk_at dksX12_told_0 10 rfl rfl)
theorem dX12_told_11 : decode cX12_told 11 = .ok (.aload_n 1, 1) := dk_43 (dk_at dksX12_told_0 11 rfl rfl)
theorem dX12_told_12 : decode cX12_told 12 = .ok (.getfield 21, 3) := dk_180 0 21 (dk_at dksX12_told_0 12 rfl rfl)
theorem dX12_told_15 : decode cX12_told 15 = .ok (.getfield 25, 3) := dk_180 0 25 (dk_at dksX12_told_0 15 rfl rfl)
theorem dX12_told_18 : decode cX12_told 18 = .ok (.iadd, 1) := dk_96 (dk_at dksX12_told_0 18 rfl rfl)
theorem dX12_told_19 : decode cX12_told 19 = .ok (.iaload, 1) := dk_46 (dk_at dksX12_told_0 19 rfl rfl)
theorem dX12_told_20 : decode cX12_told 20 = .ok (.ireturn, 1) := dk_172 (dk_at dksX12_told_0 20 rfl rfl)
abbrev cX12_goesOn : ByteArray := prog_8_method_4_code
def yX12_goesOn : MethodName := ⟨RX12, "goesOn", "(LTwoSeek$Walker;)V"⟩
def dkwX12_goesOn_0 : List UInt8 := [42, 43, 183, 0, 34, 43, 42, 43, 182, 0, 30, 8, 108, 181, 0, 15, 177]
abbrev dktX12_goesOn_0 : List UInt8 := dkwX12_goesOn_0 ++ []
theorem dksX12_goesOn_0 : cX12_goesOn.data.toList.drop 0 = dktX12_goesOn_0 := by decide +kernel
theorem dX12_goesOn_0 : decode cX12_goesOn 0 = .ok (.aload_n 0, 1) := dk_42 (dk_at dksX12_goesOn_0 0 rfl rfl)
theorem dX12_goesOn_1 : decode cX12_goesOn 1 = .ok (.aload_n 1, 1) := dk_43 (dk_at dksX12_goesOn_0 1 rfl rfl)
theorem dX12_goesOn_2 : decode cX12_goesOn 2 = .ok (.invokespecial 34, 3) := dk_183 0 34 (dk_at dksX12_goesOn_0 2 rfl rfl)
theorem dX12_goesOn_5 : decode cX12_goesOn 5 = .ok (.aload_n 1, 1) := dk_43 (dk_at dksX12_goesOn_0 5 rfl rfl)
theorem dX12_goesOn_6 : decode cX12_goesOn 6 = .ok (.aload_n 0, 1) := dk_42 (dk_at dksX12_goesOn_0 6 rfl rfl)
theorem dX12_goesOn_7 : decode cX12_goesOn 7 = .ok (.aload_n 1, 1) := dk_43 (dk_at dksX12_goesOn_0 7 rfl rfl)
theorem dX12_goesOn_8 : decode cX12_goesOn 8 = .ok (.invokevirtual 30, 3) := dk_182 0 30 (dk_at dksX12_goesOn_0 8 rfl rfl)
theorem dX12_goesOn_11 : decode cX12_goesOn 11 = .ok (.iconst 5, 1) := dk_8 (dk_at dksX12_goesOn_0 11 rfl rfl)
theorem dX12_goesOn_12 : decode cX12_goesOn 12 = .ok (.idiv, 1) := dk_108 (dk_at dksX12_goesOn_0 12 rfl rfl)
theorem dX12_goesOn_13 : decode cX12_goesOn 13 = .ok (.putfield 15, 3) := dk_181 0 15 (dk_at dksX12_goesOn_0 13 rfl rfl)
theorem dX12_goesOn_16 : decode cX12_goesOn 16 = .ok (.return_, 1) := dk_177 (dk_at dksX12_goesOn_0 16 rfl rfl)
theorem q141 : (Jvm.Cond.initialized "TwoSeek$Sight") ∈ lw_all := lw_g (lw_at lw_m1 26 rfl) rfl
theorem q290 : (Jvm.Cond.fieldLinkNest "TwoSeek$Sight" (21 : Nat) "TwoSeek$Walker" "place" "LTwoSeek$Place;" "TwoSeek") ∈ lw_tbl := lw_at lw_m1 175 rfl
theorem q296 : (Jvm.Cond.fieldLinkNest "TwoSeek$Sight" (15 : Nat) "TwoSeek$Walker" "mood" "I" "TwoSeek") ∈ lw_tbl := lw_at lw_m1 181 rfl
theorem q785 : (Jvm.Cond.fieldLinkNest "TwoSeek$Sight" (25 : Nat) "TwoSeek$Place" "sight" "I" "TwoSeek") ∈ lw_tbl := lw_at lw_m3 190 rfl
theorem q934 : (Jvm.Cond.fieldLink "TwoSeek$Sight" (9 : Nat) "TwoSeek$Sight" "row" "[I") ∈ lw_all := lw_g (lw_at lw_m4 99 rfl) rfl
theorem q935 : (Jvm.Cond.sameField "TwoSeek$Sight" "TwoSeek$Way" "row" "[I") ∈ lw_all := lw_g (lw_at lw_m4 100 rfl) rfl
theorem q958 : (Jvm.Cond.instantiable "TwoSeek$Sight" (1 : Nat)) ∈ lw_all := lw_g (lw_at lw_m4 123 rfl) rfl
theorem q960 : (Jvm.Cond.instanceMethod ({ cls := "TwoSeek$Sight", name := "<init>", desc := "([I)V" } : Jvm.MethodName)) ∈ lw_all := lw_g (lw_at lw_m4 125 rfl) rfl
theorem q961 : (Jvm.Cond.code ({ cls := "TwoSeek$Sight", name := "<init>", desc := "([I)V" } : Jvm.MethodName) prog_8_method_1_code (2 : Nat) (Option.none : Option Jvm.ClassFile.FieldType)) ∈ lw_all := lw_g (lw_at lw_m4 126 rfl) rfl
theorem q962 : (Jvm.Cond.methodLink "TwoSeek$Sight" (3 : Nat) ({ cls := "TwoSeek$Way", name := "<init>", desc := "([I)V" } : Jvm.MethodName)) ∈ lw_all := lw_g (lw_at lw_m4 127 rfl) rfl
theorem q963 : (Jvm.Cond.laysFinal "TwoSeek$Sight" "TwoSeek$Way" "row" "[I") ∈ lw_all := lw_g (lw_at lw_m4 128 rfl) rfl
theorem q964 : (Jvm.Cond.superclass "TwoSeek$Sight" "TwoSeek$Way") ∈ lw_all := lw_g (lw_at lw_m4 129 rfl) rfl
theorem q992 : (Jvm.Cond.selects "TwoSeek$Sight" ({ cls := "TwoSeek$Leads", name := "step", desc := "(LTwoSeek$Walker;)I" } : Jvm.MethodName) ({ cls := "TwoSeek$Sight", name := "step", desc := "(LTwoSeek$Walker;)I" } : Jvm.MethodName)) ∈ lw_all := lw_g (lw_at lw_m4 157 rfl) rfl
theorem q993 : (Jvm.Cond.instanceMethod ({ cls := "TwoSeek$Sight", name := "step", desc := "(LTwoSeek$Walker;)I" } : Jvm.MethodName)) ∈ lw_all := lw_g (lw_at lw_m4 158 rfl) rfl
theorem q994 : (Jvm.Cond.code ({ cls := "TwoSeek$Sight", name := "step", desc := "(LTwoSeek$Walker;)I" } : Jvm.MethodName) prog_8_method_3_code (2 : Nat) (Option.some Jvm.ClassFile.FieldType.int)) ∈ lw_all := lw_g (lw_at lw_m4 159 rfl) rfl
theorem q995 : (Jvm.Cond.methodLink "TwoSeek$Sight" (30 : Nat) ({ cls := "TwoSeek$Sight", name := "told", desc := "(LTwoSeek$Walker;)I" } : Jvm.MethodName)) ∈ lw_all := lw_g (lw_at lw_m4 160 rfl) rfl
theorem q996 : (Jvm.Cond.privateMethod ({ cls := "TwoSeek$Sight", name := "told", desc := "(LTwoSeek$Walker;)I" } : Jvm.MethodName)) ∈ lw_tbl := lw_at lw_m4 161 rfl
theorem q997 : (Jvm.Cond.instanceMethod ({ cls := "TwoSeek$Sight", name := "told", desc := "(LTwoSeek$Walker;)I" } : Jvm.MethodName)) ∈ lw_all := lw_g (lw_at lw_m4 162 rfl) rfl
theorem q998 : (Jvm.Cond.code ({ cls := "TwoSeek$Sight", name := "told", desc := "(LTwoSeek$Walker;)I" } : Jvm.MethodName) prog_8_method_2_code (2 : Nat) (Option.some Jvm.ClassFile.FieldType.int)) ∈ lw_all := lw_g (lw_at lw_m4 163 rfl) rfl
theorem q1014 : (Jvm.Cond.selects "TwoSeek$Sight" ({ cls := "TwoSeek$Way", name := "goesOn", desc := "(LTwoSeek$Walker;)V" } : Jvm.MethodName) ({ cls := "TwoSeek$Sight", name := "goesOn", desc := "(LTwoSeek$Walker;)V" } : Jvm.MethodName)) ∈ lw_all := lw_g (lw_at lw_m4 179 rfl) rfl
theorem q1015 : (Jvm.Cond.instanceMethod ({ cls := "TwoSeek$Sight", name := "goesOn", desc := "(LTwoSeek$Walker;)V" } : Jvm.MethodName)) ∈ lw_all := lw_g (lw_at lw_m4 180 rfl) rfl
theorem q1016 : (Jvm.Cond.code ({ cls := "TwoSeek$Sight", name := "goesOn", desc := "(LTwoSeek$Walker;)V" } : Jvm.MethodName) prog_8_method_4_code (2 : Nat) (Option.none : Option Jvm.ClassFile.FieldType)) ∈ lw_all := lw_g (lw_at lw_m4 181 rfl) rfl
theorem q1017 : (Jvm.Cond.methodLink "TwoSeek$Sight" (34 : Nat) ({ cls := "TwoSeek$Way", name := "goesOn", desc := "(LTwoSeek$Walker;)V" } : Jvm.MethodName)) ∈ lw_all := lw_g (lw_at lw_m4 182 rfl) rfl
theorem q1871 : (Jvm.Cond.castable "TwoSeek$Sight" "TwoSeek$Way") ∈ lw_tbl := lw_at lw_m8 76 rfl
theorem in_X12 : ∀ w ∈ wsX120, w ∈ lw_all := lw_in wsX120 [963] (by decide +kernel) (by decide +kernel)

/-! java/lang/Object -/
set_option maxRecDepth 100000
def RJ12 : String := "java/lang/Object"
abbrev cJ12_init : ByteArray := object_method_1_code
def yJ12_init : MethodName := ⟨RJ12, "<init>", "()V"⟩
theorem dJ12_init_0 : decode cJ12_init 0 = .ok (.return_, 1) := by decide +kernel
theorem q148 : (Jvm.Cond.instanceMethod ({ cls := "java/lang/Object", name := "<init>", desc := "()V" } : Jvm.MethodName)) ∈ lw_all := lw_g (lw_at lw_m1 33 rfl) rfl
theorem q149 : (Jvm.Cond.code ({ cls := "java/lang/Object", name := "<init>", desc := "()V" } : Jvm.MethodName) object_method_1_code (1 : Nat) (Option.none : Option Jvm.ClassFile.FieldType)) ∈ lw_all := lw_g (lw_at lw_m1 34 rfl) rfl

theorem q151 : (Jvm.Cond.arrayOver (Jvm.ClassFile.FieldType.object "TwoSeek$Tray")) ∈ lw_tbl := lw_at lw_m1 36 rfl
set_option maxRecDepth 100000
theorem q278 : (Jvm.Cond.arrayClass Jvm.ClassFile.FieldType.byte) ∈ lw_all := lw_g (lw_at lw_m1 163 rfl) rfl
theorem q280 : (Jvm.Cond.arrayOver (Jvm.ClassFile.FieldType.object "TwoSeek$Way")) ∈ lw_tbl := lw_at lw_m1 165 rfl
theorem q314 : (Jvm.Cond.arrayOver (Jvm.ClassFile.FieldType.object "TwoSeek$Place")) ∈ lw_tbl := lw_at lw_m1 199 rfl
theorem q316 : (Jvm.Cond.arrayOver (Jvm.ClassFile.FieldType.object "TwoSeek$Lane")) ∈ lw_tbl := lw_at lw_m1 201 rfl
theorem q354 : (Jvm.Cond.arrayClass Jvm.ClassFile.FieldType.int) ∈ lw_all := lw_g (lw_at lw_m1 239 rfl) rfl
theorem q356 : (Jvm.Cond.arrayOver (Jvm.ClassFile.FieldType.array Jvm.ClassFile.FieldType.int)) ∈ lw_tbl := lw_at lw_m2 1 rfl
theorem q357 : (Jvm.Cond.arrayOver (Jvm.ClassFile.FieldType.object "TwoSeek$Walker")) ∈ lw_tbl := lw_at lw_m2 2 rfl
theorem q359 : (Jvm.Cond.arrayOver (Jvm.ClassFile.FieldType.array Jvm.ClassFile.FieldType.long)) ∈ lw_tbl := lw_at lw_m2 4 rfl
theorem q374 : (Jvm.Cond.arrayClass Jvm.ClassFile.FieldType.boolean) ∈ lw_all := lw_g (lw_at lw_m2 19 rfl) rfl
theorem q375 : (Jvm.Cond.arrayClass Jvm.ClassFile.FieldType.long) ∈ lw_all := lw_g (lw_at lw_m2 20 rfl) rfl
theorem q575 : (Jvm.Cond.arrayClass Jvm.ClassFile.FieldType.short) ∈ lw_all := lw_g (lw_at lw_m2 220 rfl) rfl

theorem q115 : (Jvm.Cond.initialized "TwoSeekLaw") ∈ lw_all := lw_g (lw_at lw_m1 0 rfl) rfl
set_option maxRecDepth 100000
theorem q142 : (Jvm.Cond.classLink "TwoSeekLaw" (7 : Nat) "TwoSeek") ∈ lw_all := lw_g (lw_at lw_m1 27 rfl) rfl
theorem q144 : (Jvm.Cond.methodLink "TwoSeekLaw" (9 : Nat) ({ cls := "TwoSeek", name := "<init>", desc := "()V" } : Jvm.MethodName)) ∈ lw_all := lw_g (lw_at lw_m1 29 rfl) rfl
theorem q521 : (Jvm.Cond.methodLink "TwoSeekLaw" (13 : Nat) ({ cls := "TwoSeek", name := "status", desc := "()I" } : Jvm.MethodName)) ∈ lw_all := lw_g (lw_at lw_m2 166 rfl) rfl
theorem q525 : (Jvm.Cond.methodLink "TwoSeekLaw" (18 : Nat) ({ cls := "TwoSeek", name := "top", desc := "()J" } : Jvm.MethodName)) ∈ lw_all := lw_g (lw_at lw_m2 170 rfl) rfl
theorem q529 : (Jvm.Cond.methodLink "TwoSeekLaw" (23 : Nat) ({ cls := "TwoSeek", name := "bottom", desc := "()J" } : Jvm.MethodName)) ∈ lw_all := lw_g (lw_at lw_m2 174 rfl) rfl
theorem q533 : (Jvm.Cond.methodLink "TwoSeekLaw" (27 : Nat) ({ cls := "TwoSeek", name := "tray", desc := "(III)Z" } : Jvm.MethodName)) ∈ lw_all := lw_g (lw_at lw_m2 178 rfl) rfl
theorem q576 : (Jvm.Cond.methodLink "TwoSeekLaw" (34 : Nat) ({ cls := "TwoSeek", name := "write", desc := "(IIJ)Z" } : Jvm.MethodName)) ∈ lw_all := lw_g (lw_at lw_m2 221 rfl) rfl
theorem q632 : (Jvm.Cond.methodLink "TwoSeekLaw" (39 : Nat) ({ cls := "TwoSeek", name := "read", desc := "(II)J" } : Jvm.MethodName)) ∈ lw_all := lw_g (lw_at lw_m3 37 rfl) rfl
theorem q645 : (Jvm.Cond.methodLink "TwoSeekLaw" (44 : Nat) ({ cls := "TwoSeek", name := "pour", desc := "(IIIII)Z" } : Jvm.MethodName)) ∈ lw_all := lw_g (lw_at lw_m3 50 rfl) rfl
theorem q653 : (Jvm.Cond.methodLink "TwoSeekLaw" (49 : Nat) ({ cls := "TwoSeek", name := "feed", desc := "(IIIII)I" } : Jvm.MethodName)) ∈ lw_all := lw_g (lw_at lw_m3 58 rfl) rfl
theorem q661 : (Jvm.Cond.methodLink "TwoSeekLaw" (54 : Nat) ({ cls := "TwoSeek", name := "town", desc := "(I)I" } : Jvm.MethodName)) ∈ lw_all := lw_g (lw_at lw_m3 66 rfl) rfl
theorem q860 : (Jvm.Cond.methodLink "TwoSeekLaw" (59 : Nat) ({ cls := "TwoSeek", name := "fault", desc := "(I)I" } : Jvm.MethodName)) ∈ lw_all := lw_g (lw_at lw_m4 25 rfl) rfl
theorem q864 : (Jvm.Cond.methodLink "TwoSeekLaw" (63 : Nat) ({ cls := "TwoSeek", name := "many", desc := "(I)I" } : Jvm.MethodName)) ∈ lw_all := lw_g (lw_at lw_m4 29 rfl) rfl
theorem q868 : (Jvm.Cond.methodLink "TwoSeekLaw" (67 : Nat) ({ cls := "TwoSeek", name := "place", desc := "(II)I" } : Jvm.MethodName)) ∈ lw_all := lw_g (lw_at lw_m4 33 rfl) rfl
theorem q877 : (Jvm.Cond.methodLink "TwoSeekLaw" (72 : Nat) ({ cls := "TwoSeek", name := "shut", desc := "(IZ)Z" } : Jvm.MethodName)) ∈ lw_all := lw_g (lw_at lw_m4 42 rfl) rfl
theorem q885 : (Jvm.Cond.methodLink "TwoSeekLaw" (77 : Nat) ({ cls := "TwoSeek", name := "marks", desc := "(Z)Z" } : Jvm.MethodName)) ∈ lw_all := lw_g (lw_at lw_m4 50 rfl) rfl
theorem q889 : (Jvm.Cond.methodLink "TwoSeekLaw" (82 : Nat) ({ cls := "TwoSeek", name := "distance", desc := "(II)I" } : Jvm.MethodName)) ∈ lw_all := lw_g (lw_at lw_m4 54 rfl) rfl
theorem q901 : (Jvm.Cond.methodLink "TwoSeekLaw" (86 : Nat) ({ cls := "TwoSeek", name := "clock", desc := "(IIZ)I" } : Jvm.MethodName)) ∈ lw_all := lw_g (lw_at lw_m4 66 rfl) rfl
theorem q952 : (Jvm.Cond.methodLink "TwoSeekLaw" (91 : Nat) ({ cls := "TwoSeek", name := "sight", desc := "(I)I" } : Jvm.MethodName)) ∈ lw_all := lw_g (lw_at lw_m4 117 rfl) rfl
theorem q965 : (Jvm.Cond.methodLink "TwoSeekLaw" (95 : Nat) ({ cls := "TwoSeek", name := "when", desc := "(IIII)I" } : Jvm.MethodName)) ∈ lw_all := lw_g (lw_at lw_m4 130 rfl) rfl
theorem q1023 : (Jvm.Cond.methodLink "TwoSeekLaw" (100 : Nat) ({ cls := "TwoSeek", name := "judge", desc := "(III)I" } : Jvm.MethodName)) ∈ lw_all := lw_g (lw_at lw_m4 188 rfl) rfl
theorem q1027 : (Jvm.Cond.methodLink "TwoSeekLaw" (105 : Nat) ({ cls := "TwoSeek", name := "mean", desc := "(II)Z" } : Jvm.MethodName)) ∈ lw_all := lw_g (lw_at lw_m4 192 rfl) rfl
theorem q1050 : (Jvm.Cond.methodLink "TwoSeekLaw" (110 : Nat) ({ cls := "TwoSeek", name := "worst", desc := "(II)I" } : Jvm.MethodName)) ∈ lw_all := lw_g (lw_at lw_m4 215 rfl) rfl
theorem q1054 : (Jvm.Cond.methodLink "TwoSeekLaw" (114 : Nat) ({ cls := "TwoSeek", name := "same", desc := "(II)I" } : Jvm.MethodName)) ∈ lw_all := lw_g (lw_at lw_m4 219 rfl) rfl
theorem q1062 : (Jvm.Cond.methodLink "TwoSeekLaw" (118 : Nat) ({ cls := "TwoSeek", name := "agreed", desc := "(I)I" } : Jvm.MethodName)) ∈ lw_all := lw_g (lw_at lw_m4 227 rfl) rfl
theorem q1082 : (Jvm.Cond.methodLink "TwoSeekLaw" (122 : Nat) ({ cls := "TwoSeek", name := "step", desc := "(II)I" } : Jvm.MethodName)) ∈ lw_all := lw_g (lw_at lw_m5 7 rfl) rfl
theorem q1086 : (Jvm.Cond.methodLink "TwoSeekLaw" (126 : Nat) ({ cls := "TwoSeek", name := "alike", desc := "(I)I" } : Jvm.MethodName)) ∈ lw_all := lw_g (lw_at lw_m5 11 rfl) rfl
theorem q1090 : (Jvm.Cond.methodLink "TwoSeekLaw" (130 : Nat) ({ cls := "TwoSeek", name := "alikeStep", desc := "(I)I" } : Jvm.MethodName)) ∈ lw_all := lw_g (lw_at lw_m5 15 rfl) rfl
theorem q1094 : (Jvm.Cond.methodLink "TwoSeekLaw" (134 : Nat) ({ cls := "TwoSeek", name := "parted", desc := "(III)I" } : Jvm.MethodName)) ∈ lw_all := lw_g (lw_at lw_m5 19 rfl) rfl
theorem q1110 : (Jvm.Cond.methodLink "TwoSeekLaw" (138 : Nat) ({ cls := "TwoSeek", name := "drawn", desc := "(IIIII)Z" } : Jvm.MethodName)) ∈ lw_all := lw_g (lw_at lw_m5 35 rfl) rfl
theorem q1130 : (Jvm.Cond.methodLink "TwoSeekLaw" (142 : Nat) ({ cls := "TwoSeek", name := "bestDrawn", desc := "(IIII)I" } : Jvm.MethodName)) ∈ lw_all := lw_g (lw_at lw_m5 55 rfl) rfl
theorem q1134 : (Jvm.Cond.methodLink "TwoSeekLaw" (146 : Nat) ({ cls := "TwoSeek", name := "three", desc := "(IIII)I" } : Jvm.MethodName)) ∈ lw_all := lw_g (lw_at lw_m5 59 rfl) rfl
theorem q1142 : (Jvm.Cond.methodLink "TwoSeekLaw" (150 : Nat) ({ cls := "TwoSeek", name := "value", desc := "(IIIIIII)Z" } : Jvm.MethodName)) ∈ lw_all := lw_g (lw_at lw_m5 67 rfl) rfl
theorem q1169 : (Jvm.Cond.methodLink "TwoSeekLaw" (155 : Nat) ({ cls := "TwoSeek", name := "chance", desc := "(I)Z" } : Jvm.MethodName)) ∈ lw_all := lw_g (lw_at lw_m5 94 rfl) rfl
theorem q1173 : (Jvm.Cond.methodLink "TwoSeekLaw" (160 : Nat) ({ cls := "TwoSeek", name := "door", desc := "(II)I" } : Jvm.MethodName)) ∈ lw_all := lw_g (lw_at lw_m5 98 rfl) rfl
theorem q1177 : (Jvm.Cond.methodLink "TwoSeekLaw" (164 : Nat) ({ cls := "TwoSeek", name := "wander", desc := "(III)I" } : Jvm.MethodName)) ∈ lw_all := lw_g (lw_at lw_m5 102 rfl) rfl
theorem q1184 : (Jvm.Cond.classLink "TwoSeekLaw" (10 : Nat) "TwoSeekModel") ∈ lw_all := lw_g (lw_at lw_m5 109 rfl) rfl
theorem q1186 : (Jvm.Cond.methodLink "TwoSeekLaw" (12 : Nat) ({ cls := "TwoSeekModel", name := "<init>", desc := "()V" } : Jvm.MethodName)) ∈ lw_all := lw_g (lw_at lw_m5 111 rfl) rfl
theorem q1428 : (Jvm.Cond.methodLink "TwoSeekLaw" (17 : Nat) ({ cls := "TwoSeekModel", name := "status", desc := "()I" } : Jvm.MethodName)) ∈ lw_all := lw_g (lw_at lw_m6 113 rfl) rfl
theorem q1432 : (Jvm.Cond.methodLink "TwoSeekLaw" (22 : Nat) ({ cls := "TwoSeekModel", name := "top", desc := "()J" } : Jvm.MethodName)) ∈ lw_all := lw_g (lw_at lw_m6 117 rfl) rfl
theorem q1436 : (Jvm.Cond.methodLink "TwoSeekLaw" (26 : Nat) ({ cls := "TwoSeekModel", name := "bottom", desc := "()J" } : Jvm.MethodName)) ∈ lw_all := lw_g (lw_at lw_m6 121 rfl) rfl
theorem q1440 : (Jvm.Cond.methodLink "TwoSeekLaw" (31 : Nat) ({ cls := "TwoSeekModel", name := "tray", desc := "(III)Z" } : Jvm.MethodName)) ∈ lw_all := lw_g (lw_at lw_m6 125 rfl) rfl
theorem q1448 : (Jvm.Cond.methodLink "TwoSeekLaw" (38 : Nat) ({ cls := "TwoSeekModel", name := "write", desc := "(IIJ)Z" } : Jvm.MethodName)) ∈ lw_all := lw_g (lw_at lw_m6 133 rfl) rfl
theorem q1463 : (Jvm.Cond.methodLink "TwoSeekLaw" (43 : Nat) ({ cls := "TwoSeekModel", name := "read", desc := "(II)J" } : Jvm.MethodName)) ∈ lw_all := lw_g (lw_at lw_m6 148 rfl) rfl
theorem q1468 : (Jvm.Cond.methodLink "TwoSeekLaw" (48 : Nat) ({ cls := "TwoSeekModel", name := "pour", desc := "(IIIII)Z" } : Jvm.MethodName)) ∈ lw_all := lw_g (lw_at lw_m6 153 rfl) rfl
theorem q1472 : (Jvm.Cond.methodLink "TwoSeekLaw" (53 : Nat) ({ cls := "TwoSeekModel", name := "feed", desc := "(IIIII)I" } : Jvm.MethodName)) ∈ lw_all := lw_g (lw_at lw_m6 157 rfl) rfl
theorem q1480 : (Jvm.Cond.methodLink "TwoSeekLaw" (58 : Nat) ({ cls := "TwoSeekModel", name := "town", desc := "(I)I" } : Jvm.MethodName)) ∈ lw_all := lw_g (lw_at lw_m6 165 rfl) rfl
theorem q1586 : (Jvm.Cond.methodLink "TwoSeekLaw" (62 : Nat) ({ cls := "TwoSeekModel", name := "fault", desc := "(I)I" } : Jvm.MethodName)) ∈ lw_all := lw_g (lw_at lw_m7 31 rfl) rfl
theorem q1590 : (Jvm.Cond.methodLink "TwoSeekLaw" (66 : Nat) ({ cls := "TwoSeekModel", name := "many", desc := "(I)I" } : Jvm.MethodName)) ∈ lw_all := lw_g (lw_at lw_m7 35 rfl) rfl
theorem q1594 : (Jvm.Cond.methodLink "TwoSeekLaw" (71 : Nat) ({ cls := "TwoSeekModel", name := "place", desc := "(II)I" } : Jvm.MethodName)) ∈ lw_all := lw_g (lw_at lw_m7 39 rfl) rfl
theorem q1611 : (Jvm.Cond.methodLink "TwoSeekLaw" (76 : Nat) ({ cls := "TwoSeekModel", name := "shut", desc := "(IZ)Z" } : Jvm.MethodName)) ∈ lw_all := lw_g (lw_at lw_m7 56 rfl) rfl
theorem q1615 : (Jvm.Cond.methodLink "TwoSeekLaw" (81 : Nat) ({ cls := "TwoSeekModel", name := "marks", desc := "(Z)Z" } : Jvm.MethodName)) ∈ lw_all := lw_g (lw_at lw_m7 60 rfl) rfl
theorem q1619 : (Jvm.Cond.methodLink "TwoSeekLaw" (85 : Nat) ({ cls := "TwoSeekModel", name := "distance", desc := "(II)I" } : Jvm.MethodName)) ∈ lw_all := lw_g (lw_at lw_m7 64 rfl) rfl
theorem q1628 : (Jvm.Cond.methodLink "TwoSeekLaw" (90 : Nat) ({ cls := "TwoSeekModel", name := "clock", desc := "(IIZ)I" } : Jvm.MethodName)) ∈ lw_all := lw_g (lw_at lw_m7 73 rfl) rfl
theorem q1642 : (Jvm.Cond.methodLink "TwoSeekLaw" (94 : Nat) ({ cls := "TwoSeekModel", name := "sight", desc := "(I)I" } : Jvm.MethodName)) ∈ lw_all := lw_g (lw_at lw_m7 87 rfl) rfl
theorem q1647 : (Jvm.Cond.methodLink "TwoSeekLaw" (99 : Nat) ({ cls := "TwoSeekModel", name := "when", desc := "(IIII)I" } : Jvm.MethodName)) ∈ lw_all := lw_g (lw_at lw_m7 92 rfl) rfl
theorem q1687 : (Jvm.Cond.methodLink "TwoSeekLaw" (104 : Nat) ({ cls := "TwoSeekModel", name := "judge", desc := "(III)I" } : Jvm.MethodName)) ∈ lw_all := lw_g (lw_at lw_m7 132 rfl) rfl
theorem q1692 : (Jvm.Cond.methodLink "TwoSeekLaw" (109 : Nat) ({ cls := "TwoSeekModel", name := "mean", desc := "(II)Z" } : Jvm.MethodName)) ∈ lw_all := lw_g (lw_at lw_m7 137 rfl) rfl
theorem q1716 : (Jvm.Cond.methodLink "TwoSeekLaw" (113 : Nat) ({ cls := "TwoSeekModel", name := "worst", desc := "(II)I" } : Jvm.MethodName)) ∈ lw_all := lw_g (lw_at lw_m7 161 rfl) rfl
theorem q1721 : (Jvm.Cond.methodLink "TwoSeekLaw" (117 : Nat) ({ cls := "TwoSeekModel", name := "same", desc := "(II)I" } : Jvm.MethodName)) ∈ lw_all := lw_g (lw_at lw_m7 166 rfl) rfl
theorem q1725 : (Jvm.Cond.methodLink "TwoSeekLaw" (121 : Nat) ({ cls := "TwoSeekModel", name := "agreed", desc := "(I)I" } : Jvm.MethodName)) ∈ lw_all := lw_g (lw_at lw_m7 170 rfl) rfl
theorem q1737 : (Jvm.Cond.methodLink "TwoSeekLaw" (125 : Nat) ({ cls := "TwoSeekModel", name := "step", desc := "(II)I" } : Jvm.MethodName)) ∈ lw_all := lw_g (lw_at lw_m7 182 rfl) rfl
theorem q1741 : (Jvm.Cond.methodLink "TwoSeekLaw" (129 : Nat) ({ cls := "TwoSeekModel", name := "alike", desc := "(I)I" } : Jvm.MethodName)) ∈ lw_all := lw_g (lw_at lw_m7 186 rfl) rfl
theorem q1745 : (Jvm.Cond.methodLink "TwoSeekLaw" (133 : Nat) ({ cls := "TwoSeekModel", name := "alikeStep", desc := "(I)I" } : Jvm.MethodName)) ∈ lw_all := lw_g (lw_at lw_m7 190 rfl) rfl
theorem q1749 : (Jvm.Cond.methodLink "TwoSeekLaw" (137 : Nat) ({ cls := "TwoSeekModel", name := "parted", desc := "(III)I" } : Jvm.MethodName)) ∈ lw_all := lw_g (lw_at lw_m7 194 rfl) rfl
theorem q1765 : (Jvm.Cond.methodLink "TwoSeekLaw" (141 : Nat) ({ cls := "TwoSeekModel", name := "drawn", desc := "(IIIII)Z" } : Jvm.MethodName)) ∈ lw_all := lw_g (lw_at lw_m7 210 rfl) rfl
theorem q1787 : (Jvm.Cond.methodLink "TwoSeekLaw" (145 : Nat) ({ cls := "TwoSeekModel", name := "bestDrawn", desc := "(IIII)I" } : Jvm.MethodName)) ∈ lw_all := lw_g (lw_at lw_m7 232 rfl) rfl
theorem q1791 : (Jvm.Cond.methodLink "TwoSeekLaw" (149 : Nat) ({ cls := "TwoSeekModel", name := "three", desc := "(IIII)I" } : Jvm.MethodName)) ∈ lw_all := lw_g (lw_at lw_m7 236 rfl) rfl
theorem q1800 : (Jvm.Cond.methodLink "TwoSeekLaw" (154 : Nat) ({ cls := "TwoSeekModel", name := "value", desc := "(IIIIIII)Z" } : Jvm.MethodName)) ∈ lw_all := lw_g (lw_at lw_m8 5 rfl) rfl
theorem q1850 : (Jvm.Cond.methodLink "TwoSeekLaw" (159 : Nat) ({ cls := "TwoSeekModel", name := "chance", desc := "(I)Z" } : Jvm.MethodName)) ∈ lw_all := lw_g (lw_at lw_m8 55 rfl) rfl
theorem q1854 : (Jvm.Cond.methodLink "TwoSeekLaw" (163 : Nat) ({ cls := "TwoSeekModel", name := "door", desc := "(II)I" } : Jvm.MethodName)) ∈ lw_all := lw_g (lw_at lw_m8 59 rfl) rfl
theorem q1858 : (Jvm.Cond.methodLink "TwoSeekLaw" (167 : Nat) ({ cls := "TwoSeekModel", name := "wander", desc := "(III)I" } : Jvm.MethodName)) ∈ lw_all := lw_g (lw_at lw_m8 63 rfl) rfl
theorem q1866 : (Jvm.Cond.constantLong "TwoSeekLaw" (32 : Nat) (4294967295 : Int64)) ∈ lw_all := lw_g (lw_at lw_m8 71 rfl) rfl

theorem q131 : (Jvm.Cond.initialized "java/lang/System") ∈ lw_all := lw_g (lw_at lw_m1 16 rfl) rfl
set_option maxRecDepth 100000
theorem q651 : (Jvm.Cond.static ({ cls := "java/lang/System", name := "arraycopy", desc := "(Ljava/lang/Object;ILjava/lang/Object;II)V" } : Jvm.MethodName)) ∈ lw_all := lw_g (lw_at lw_m3 56 rfl) rfl
theorem q652 : (Jvm.Cond.native ({ cls := "java/lang/System", name := "arraycopy", desc := "(Ljava/lang/Object;ILjava/lang/Object;II)V" } : Jvm.MethodName)) ∈ lw_all := lw_g (lw_at lw_m3 57 rfl) rfl

theorem q987 : (Jvm.Cond.declares ({ cls := "TwoSeek$Leads", name := "step", desc := "(LTwoSeek$Walker;)I" } : Jvm.MethodName)) ∈ lw_tbl := lw_at lw_m4 152 rfl
set_option maxRecDepth 100000
