/-! DECODE ROWS BY BYTES: one lemma an opcode; a method's code is cut into short pieces once, and a row reads its own piece alone. -/
set_option maxRecDepth 100000
/-- the code has just these bytes from pc on -/
def DkAt (code : ByteArray) (pc : Nat) (bs : List UInt8) : Prop := ∀ (j : Nat) (b : UInt8), bs[j]? = some b → code.data.toList[pc + j]? = some b
/-- the piece W has the bytes bs from its place j on -/
def dkIn (W : List UInt8) (j : Nat) (bs : List UInt8) : Bool := decide ((W.drop j).take bs.length = bs)
theorem dk_seg {l W T : List UInt8} {o o2 : Nat} (h : l.drop o = W ++ T) (n : Nat) (hn : W.length = n) (ho : o + n = o2) : l.drop o2 = T := by
  subst ho
  rw [← List.drop_drop, h, List.drop_left' hn]
theorem dk_at {code : ByteArray} {W T bs : List UInt8} {o pc : Nat} (h : code.data.toList.drop o = W ++ T) (j : Nat) (hp : o + j = pc) (hw : dkIn W j bs = true) : DkAt code pc bs := by
  subst hp
  intro i b e
  have h1 := of_decide_eq_true hw
  have h2 : i < bs.length := (List.getElem?_eq_some_iff.mp e).1
  have h3 : W[j + i]? = some b := by
    rw [← h1, List.getElem?_take, if_pos h2, List.getElem?_drop] at e
    exact e
  have h4 : j + i < W.length := (List.getElem?_eq_some_iff.mp h3).1
  have h5 : (code.data.toList.drop o)[j + i]? = some b := by
    rw [h, List.getElem?_append_left h4]
    exact h3
  rw [List.getElem?_drop, ← Nat.add_assoc] at h5
  exact h5
theorem dk_u1 {A : ByteArray} {p : Nat} {b : UInt8} (h : A.data.toList[p]? = some b) : (Reader.u1 : Reader DecodeError Nat) A p = .ok (b.toNat, p + 1) := by
  obtain ⟨h1, h2⟩ := List.getElem?_eq_some_iff.mp h
  have h3 : p < A.size := by simpa using h1
  have h4 : A[p]'h3 = b := h2
  have e : (Reader.u1 : Reader DecodeError Nat) A p = (if h : p < A.size then .ok (A[p].toNat, p + 1) else .error (HasTruncated.truncated p)) := by
    show (do if h : p < A.size then do set (p + 1); Pure.pure A[p].toNat else MonadExcept.throw (HasTruncated.truncated p) : Reader DecodeError Nat) A p = _
    by_cases hi : p < A.size
    · rw [dif_pos hi, dif_pos hi]; rfl
    · rw [dif_neg hi, dif_neg hi]; rfl
  rw [e, dif_pos h3, h4]
theorem dk_bind {α β : Type} {r : Reader DecodeError α} {f : α → Reader DecodeError β} {A : ByteArray} {p s : Nat} {a : α} (h : r A p = .ok (a, s)) : (r >>= f) A p = f a A s := by
  show (do let (a, s) ← r A p; f a A s : Except DecodeError (β × Nat)) = _
  rw [h]
  rfl
theorem dk_map {α β : Type} {r : Reader DecodeError α} {g : α → β} {A : ByteArray} {p s : Nat} {a : α} (h : r A p = .ok (a, s)) : (g <$> r) A p = .ok (g a, s) := by
  show (do let (a, s) ← r A p; .ok (g a, s) : Except DecodeError (β × Nat)) = _
  rw [h]
  rfl
theorem dk_u2 {A : ByteArray} {p : Nat} {a b : UInt8} (h : A.data.toList[p]? = some a) (h2 : A.data.toList[p + 1]? = some b) : (Reader.u2 : Reader DecodeError Nat) A p = .ok (a.toNat * 256 + b.toNat, p + 2) := by
  show (Reader.u1 >>= fun hi => Reader.u1 >>= fun lo => Pure.pure (hi * 256 + lo) : Reader DecodeError Nat) A p = _
  rw [dk_bind (dk_u1 h), dk_bind (dk_u1 h2)]
  rfl
theorem dk_of {code : ByteArray} {pc n : Nat} {i : Instr} (h : Decoder.instr pc code pc = .ok (i, pc + n)) : decode code pc = .ok (i, n) := by
  have e : decode code pc = (match Decoder.instr pc code pc with | .error x => .error x | .ok (j, s) => .ok (j, s - pc)) := by
    show (do let (j, s) ← Decoder.instr pc code pc; Pure.pure (j, s - pc) : Except DecodeError (Instr × Nat)) = _
    cases Decoder.instr pc code pc <;> rfl
  rw [e, h]
  show Except.ok (i, pc + n - pc) = _
  rw [Nat.add_sub_cancel_left]
theorem dk_1 {code : ByteArray} {pc : Nat} (h : DkAt code pc [1]) : decode code pc = .ok (.aconst_null, 1) := dk_of ((dk_bind (dk_u1 (h 0 _ rfl))).trans rfl)
theorem dk_2 {code : ByteArray} {pc : Nat} (h : DkAt code pc [2]) : decode code pc = .ok (.iconst (-1), 1) := dk_of ((dk_bind (dk_u1 (h 0 _ rfl))).trans rfl)
theorem dk_3 {code : ByteArray} {pc : Nat} (h : DkAt code pc [3]) : decode code pc = .ok (.iconst 0, 1) := dk_of ((dk_bind (dk_u1 (h 0 _ rfl))).trans rfl)
theorem dk_4 {code : ByteArray} {pc : Nat} (h : DkAt code pc [4]) : decode code pc = .ok (.iconst 1, 1) := dk_of ((dk_bind (dk_u1 (h 0 _ rfl))).trans rfl)
theorem dk_5 {code : ByteArray} {pc : Nat} (h : DkAt code pc [5]) : decode code pc = .ok (.iconst 2, 1) := dk_of ((dk_bind (dk_u1 (h 0 _ rfl))).trans rfl)
theorem dk_6 {code : ByteArray} {pc : Nat} (h : DkAt code pc [6]) : decode code pc = .ok (.iconst 3, 1) := dk_of ((dk_bind (dk_u1 (h 0 _ rfl))).trans rfl)
theorem dk_7 {code : ByteArray} {pc : Nat} (h : DkAt code pc [7]) : decode code pc = .ok (.iconst 4, 1) := dk_of ((dk_bind (dk_u1 (h 0 _ rfl))).trans rfl)
theorem dk_8 {code : ByteArray} {pc : Nat} (h : DkAt code pc [8]) : decode code pc = .ok (.iconst 5, 1) := dk_of ((dk_bind (dk_u1 (h 0 _ rfl))).trans rfl)
theorem dk_9 {code : ByteArray} {pc : Nat} (h : DkAt code pc [9]) : decode code pc = .ok (.lconst 0, 1) := dk_of ((dk_bind (dk_u1 (h 0 _ rfl))).trans rfl)
theorem dk_10 {code : ByteArray} {pc : Nat} (h : DkAt code pc [10]) : decode code pc = .ok (.lconst 1, 1) := dk_of ((dk_bind (dk_u1 (h 0 _ rfl))).trans rfl)
theorem dk_16 {code : ByteArray} {pc : Nat} (a : UInt8) (h : DkAt code pc [16, a]) : decode code pc = .ok (.bipush (Reader.signed 8 a.toNat), 2) := dk_of ((dk_bind (dk_u1 (h 0 _ rfl))).trans ((dk_bind (dk_map (dk_u1 (h 1 _ rfl)))).trans rfl))
theorem dk_17 {code : ByteArray} {pc : Nat} (a b : UInt8) (h : DkAt code pc [17, a, b]) : decode code pc = .ok (.sipush (Reader.signed 16 (a.toNat * 256 + b.toNat)), 3) := dk_of ((dk_bind (dk_u1 (h 0 _ rfl))).trans ((dk_bind (dk_map (dk_u2 (h 1 _ rfl) (h 2 _ rfl)))).trans rfl))
theorem dk_18 {code : ByteArray} {pc : Nat} (a : UInt8) (h : DkAt code pc [18, a]) : decode code pc = .ok (.ldc a.toNat, 2) := dk_of ((dk_bind (dk_u1 (h 0 _ rfl))).trans ((dk_bind (dk_u1 (h 1 _ rfl))).trans rfl))
theorem dk_19 {code : ByteArray} {pc : Nat} (a b : UInt8) (h : DkAt code pc [19, a, b]) : decode code pc = .ok (.ldc_w (a.toNat * 256 + b.toNat), 3) := dk_of ((dk_bind (dk_u1 (h 0 _ rfl))).trans ((dk_bind (dk_u2 (h 1 _ rfl) (h 2 _ rfl))).trans rfl))
theorem dk_20 {code : ByteArray} {pc : Nat} (a b : UInt8) (h : DkAt code pc [20, a, b]) : decode code pc = .ok (.ldc2_w (a.toNat * 256 + b.toNat), 3) := dk_of ((dk_bind (dk_u1 (h 0 _ rfl))).trans ((dk_bind (dk_u2 (h 1 _ rfl) (h 2 _ rfl))).trans rfl))
theorem dk_21 {code : ByteArray} {pc : Nat} (a : UInt8) (h : DkAt code pc [21, a]) : decode code pc = .ok (.iload a.toNat, 2) := dk_of ((dk_bind (dk_u1 (h 0 _ rfl))).trans ((dk_bind (dk_u1 (h 1 _ rfl))).trans rfl))
theorem dk_22 {code : ByteArray} {pc : Nat} (a : UInt8) (h : DkAt code pc [22, a]) : decode code pc = .ok (.lload a.toNat, 2) := dk_of ((dk_bind (dk_u1 (h 0 _ rfl))).trans ((dk_bind (dk_u1 (h 1 _ rfl))).trans rfl))
theorem dk_25 {code : ByteArray} {pc : Nat} (a : UInt8) (h : DkAt code pc [25, a]) : decode code pc = .ok (.aload a.toNat, 2) := dk_of ((dk_bind (dk_u1 (h 0 _ rfl))).trans ((dk_bind (dk_u1 (h 1 _ rfl))).trans rfl))
theorem dk_26 {code : ByteArray} {pc : Nat} (h : DkAt code pc [26]) : decode code pc = .ok (.iload_n 0, 1) := dk_of ((dk_bind (dk_u1 (h 0 _ rfl))).trans rfl)
theorem dk_27 {code : ByteArray} {pc : Nat} (h : DkAt code pc [27]) : decode code pc = .ok (.iload_n 1, 1) := dk_of ((dk_bind (dk_u1 (h 0 _ rfl))).trans rfl)
theorem dk_28 {code : ByteArray} {pc : Nat} (h : DkAt code pc [28]) : decode code pc = .ok (.iload_n 2, 1) := dk_of ((dk_bind (dk_u1 (h 0 _ rfl))).trans rfl)
theorem dk_29 {code : ByteArray} {pc : Nat} (h : DkAt code pc [29]) : decode code pc = .ok (.iload_n 3, 1) := dk_of ((dk_bind (dk_u1 (h 0 _ rfl))).trans rfl)
theorem dk_30 {code : ByteArray} {pc : Nat} (h : DkAt code pc [30]) : decode code pc = .ok (.lload_n 0, 1) := dk_of ((dk_bind (dk_u1 (h 0 _ rfl))).trans rfl)
theorem dk_31 {code : ByteArray} {pc : Nat} (h : DkAt code pc [31]) : decode code pc = .ok (.lload_n 1, 1) := dk_of ((dk_bind (dk_u1 (h 0 _ rfl))).trans rfl)
theorem dk_32 {code : ByteArray} {pc : Nat} (h : DkAt code pc [32]) : decode code pc = .ok (.lload_n 2, 1) := dk_of ((dk_bind (dk_u1 (h 0 _ rfl))).trans rfl)
theorem dk_33 {code : ByteArray} {pc : Nat} (h : DkAt code pc [33]) : decode code pc = .ok (.lload_n 3, 1) := dk_of ((dk_bind (dk_u1 (h 0 _ rfl))).trans rfl)
theorem dk_42 {code : ByteArray} {pc : Nat} (h : DkAt code pc [42]) : decode code pc = .ok (.aload_n 0, 1) := dk_of ((dk_bind (dk_u1 (h 0 _ rfl))).trans rfl)
theorem dk_43 {code : ByteArray} {pc : Nat} (h : DkAt code pc [43]) : decode code pc = .ok (.aload_n 1, 1) := dk_of ((dk_bind (dk_u1 (h 0 _ rfl))).trans rfl)
theorem dk_44 {code : ByteArray} {pc : Nat} (h : DkAt code pc [44]) : decode code pc = .ok (.aload_n 2, 1) := dk_of ((dk_bind (dk_u1 (h 0 _ rfl))).trans rfl)
theorem dk_45 {code : ByteArray} {pc : Nat} (h : DkAt code pc [45]) : decode code pc = .ok (.aload_n 3, 1) := dk_of ((dk_bind (dk_u1 (h 0 _ rfl))).trans rfl)
theorem dk_46 {code : ByteArray} {pc : Nat} (h : DkAt code pc [46]) : decode code pc = .ok (.iaload, 1) := dk_of ((dk_bind (dk_u1 (h 0 _ rfl))).trans rfl)
theorem dk_47 {code : ByteArray} {pc : Nat} (h : DkAt code pc [47]) : decode code pc = .ok (.laload, 1) := dk_of ((dk_bind (dk_u1 (h 0 _ rfl))).trans rfl)
theorem dk_50 {code : ByteArray} {pc : Nat} (h : DkAt code pc [50]) : decode code pc = .ok (.aaload, 1) := dk_of ((dk_bind (dk_u1 (h 0 _ rfl))).trans rfl)
theorem dk_51 {code : ByteArray} {pc : Nat} (h : DkAt code pc [51]) : decode code pc = .ok (.baload, 1) := dk_of ((dk_bind (dk_u1 (h 0 _ rfl))).trans rfl)
theorem dk_54 {code : ByteArray} {pc : Nat} (a : UInt8) (h : DkAt code pc [54, a]) : decode code pc = .ok (.istore a.toNat, 2) := dk_of ((dk_bind (dk_u1 (h 0 _ rfl))).trans ((dk_bind (dk_u1 (h 1 _ rfl))).trans rfl))
theorem dk_55 {code : ByteArray} {pc : Nat} (a : UInt8) (h : DkAt code pc [55, a]) : decode code pc = .ok (.lstore a.toNat, 2) := dk_of ((dk_bind (dk_u1 (h 0 _ rfl))).trans ((dk_bind (dk_u1 (h 1 _ rfl))).trans rfl))
theorem dk_58 {code : ByteArray} {pc : Nat} (a : UInt8) (h : DkAt code pc [58, a]) : decode code pc = .ok (.astore a.toNat, 2) := dk_of ((dk_bind (dk_u1 (h 0 _ rfl))).trans ((dk_bind (dk_u1 (h 1 _ rfl))).trans rfl))
theorem dk_59 {code : ByteArray} {pc : Nat} (h : DkAt code pc [59]) : decode code pc = .ok (.istore_n 0, 1) := dk_of ((dk_bind (dk_u1 (h 0 _ rfl))).trans rfl)
theorem dk_60 {code : ByteArray} {pc : Nat} (h : DkAt code pc [60]) : decode code pc = .ok (.istore_n 1, 1) := dk_of ((dk_bind (dk_u1 (h 0 _ rfl))).trans rfl)
theorem dk_61 {code : ByteArray} {pc : Nat} (h : DkAt code pc [61]) : decode code pc = .ok (.istore_n 2, 1) := dk_of ((dk_bind (dk_u1 (h 0 _ rfl))).trans rfl)
theorem dk_62 {code : ByteArray} {pc : Nat} (h : DkAt code pc [62]) : decode code pc = .ok (.istore_n 3, 1) := dk_of ((dk_bind (dk_u1 (h 0 _ rfl))).trans rfl)
theorem dk_63 {code : ByteArray} {pc : Nat} (h : DkAt code pc [63]) : decode code pc = .ok (.lstore_n 0, 1) := dk_of ((dk_bind (dk_u1 (h 0 _ rfl))).trans rfl)
theorem dk_64 {code : ByteArray} {pc : Nat} (h : DkAt code pc [64]) : decode code pc = .ok (.lstore_n 1, 1) := dk_of ((dk_bind (dk_u1 (h 0 _ rfl))).trans rfl)
theorem dk_65 {code : ByteArray} {pc : Nat} (h : DkAt code pc [65]) : decode code pc = .ok (.lstore_n 2, 1) := dk_of ((dk_bind (dk_u1 (h 0 _ rfl))).trans rfl)
theorem dk_66 {code : ByteArray} {pc : Nat} (h : DkAt code pc [66]) : decode code pc = .ok (.lstore_n 3, 1) := dk_of ((dk_bind (dk_u1 (h 0 _ rfl))).trans rfl)
theorem dk_76 {code : ByteArray} {pc : Nat} (h : DkAt code pc [76]) : decode code pc = .ok (.astore_n 1, 1) := dk_of ((dk_bind (dk_u1 (h 0 _ rfl))).trans rfl)
theorem dk_77 {code : ByteArray} {pc : Nat} (h : DkAt code pc [77]) : decode code pc = .ok (.astore_n 2, 1) := dk_of ((dk_bind (dk_u1 (h 0 _ rfl))).trans rfl)
theorem dk_78 {code : ByteArray} {pc : Nat} (h : DkAt code pc [78]) : decode code pc = .ok (.astore_n 3, 1) := dk_of ((dk_bind (dk_u1 (h 0 _ rfl))).trans rfl)
theorem dk_79 {code : ByteArray} {pc : Nat} (h : DkAt code pc [79]) : decode code pc = .ok (.iastore, 1) := dk_of ((dk_bind (dk_u1 (h 0 _ rfl))).trans rfl)
theorem dk_80 {code : ByteArray} {pc : Nat} (h : DkAt code pc [80]) : decode code pc = .ok (.lastore, 1) := dk_of ((dk_bind (dk_u1 (h 0 _ rfl))).trans rfl)
theorem dk_83 {code : ByteArray} {pc : Nat} (h : DkAt code pc [83]) : decode code pc = .ok (.aastore, 1) := dk_of ((dk_bind (dk_u1 (h 0 _ rfl))).trans rfl)
theorem dk_84 {code : ByteArray} {pc : Nat} (h : DkAt code pc [84]) : decode code pc = .ok (.bastore, 1) := dk_of ((dk_bind (dk_u1 (h 0 _ rfl))).trans rfl)
theorem dk_87 {code : ByteArray} {pc : Nat} (h : DkAt code pc [87]) : decode code pc = .ok (.pop, 1) := dk_of ((dk_bind (dk_u1 (h 0 _ rfl))).trans rfl)
theorem dk_89 {code : ByteArray} {pc : Nat} (h : DkAt code pc [89]) : decode code pc = .ok (.dup, 1) := dk_of ((dk_bind (dk_u1 (h 0 _ rfl))).trans rfl)
theorem dk_92 {code : ByteArray} {pc : Nat} (h : DkAt code pc [92]) : decode code pc = .ok (.dup2, 1) := dk_of ((dk_bind (dk_u1 (h 0 _ rfl))).trans rfl)
theorem dk_96 {code : ByteArray} {pc : Nat} (h : DkAt code pc [96]) : decode code pc = .ok (.iadd, 1) := dk_of ((dk_bind (dk_u1 (h 0 _ rfl))).trans rfl)
theorem dk_97 {code : ByteArray} {pc : Nat} (h : DkAt code pc [97]) : decode code pc = .ok (.ladd, 1) := dk_of ((dk_bind (dk_u1 (h 0 _ rfl))).trans rfl)
theorem dk_100 {code : ByteArray} {pc : Nat} (h : DkAt code pc [100]) : decode code pc = .ok (.isub, 1) := dk_of ((dk_bind (dk_u1 (h 0 _ rfl))).trans rfl)
theorem dk_101 {code : ByteArray} {pc : Nat} (h : DkAt code pc [101]) : decode code pc = .ok (.lsub, 1) := dk_of ((dk_bind (dk_u1 (h 0 _ rfl))).trans rfl)
theorem dk_104 {code : ByteArray} {pc : Nat} (h : DkAt code pc [104]) : decode code pc = .ok (.imul, 1) := dk_of ((dk_bind (dk_u1 (h 0 _ rfl))).trans rfl)
theorem dk_105 {code : ByteArray} {pc : Nat} (h : DkAt code pc [105]) : decode code pc = .ok (.lmul, 1) := dk_of ((dk_bind (dk_u1 (h 0 _ rfl))).trans rfl)
theorem dk_108 {code : ByteArray} {pc : Nat} (h : DkAt code pc [108]) : decode code pc = .ok (.idiv, 1) := dk_of ((dk_bind (dk_u1 (h 0 _ rfl))).trans rfl)
theorem dk_109 {code : ByteArray} {pc : Nat} (h : DkAt code pc [109]) : decode code pc = .ok (.ldiv, 1) := dk_of ((dk_bind (dk_u1 (h 0 _ rfl))).trans rfl)
theorem dk_112 {code : ByteArray} {pc : Nat} (h : DkAt code pc [112]) : decode code pc = .ok (.irem, 1) := dk_of ((dk_bind (dk_u1 (h 0 _ rfl))).trans rfl)
theorem dk_113 {code : ByteArray} {pc : Nat} (h : DkAt code pc [113]) : decode code pc = .ok (.lrem, 1) := dk_of ((dk_bind (dk_u1 (h 0 _ rfl))).trans rfl)
theorem dk_116 {code : ByteArray} {pc : Nat} (h : DkAt code pc [116]) : decode code pc = .ok (.ineg, 1) := dk_of ((dk_bind (dk_u1 (h 0 _ rfl))).trans rfl)
theorem dk_117 {code : ByteArray} {pc : Nat} (h : DkAt code pc [117]) : decode code pc = .ok (.lneg, 1) := dk_of ((dk_bind (dk_u1 (h 0 _ rfl))).trans rfl)
theorem dk_120 {code : ByteArray} {pc : Nat} (h : DkAt code pc [120]) : decode code pc = .ok (.ishl, 1) := dk_of ((dk_bind (dk_u1 (h 0 _ rfl))).trans rfl)
theorem dk_121 {code : ByteArray} {pc : Nat} (h : DkAt code pc [121]) : decode code pc = .ok (.lshl, 1) := dk_of ((dk_bind (dk_u1 (h 0 _ rfl))).trans rfl)
theorem dk_122 {code : ByteArray} {pc : Nat} (h : DkAt code pc [122]) : decode code pc = .ok (.ishr, 1) := dk_of ((dk_bind (dk_u1 (h 0 _ rfl))).trans rfl)
theorem dk_123 {code : ByteArray} {pc : Nat} (h : DkAt code pc [123]) : decode code pc = .ok (.lshr, 1) := dk_of ((dk_bind (dk_u1 (h 0 _ rfl))).trans rfl)
theorem dk_124 {code : ByteArray} {pc : Nat} (h : DkAt code pc [124]) : decode code pc = .ok (.iushr, 1) := dk_of ((dk_bind (dk_u1 (h 0 _ rfl))).trans rfl)
theorem dk_125 {code : ByteArray} {pc : Nat} (h : DkAt code pc [125]) : decode code pc = .ok (.lushr, 1) := dk_of ((dk_bind (dk_u1 (h 0 _ rfl))).trans rfl)
theorem dk_126 {code : ByteArray} {pc : Nat} (h : DkAt code pc [126]) : decode code pc = .ok (.iand, 1) := dk_of ((dk_bind (dk_u1 (h 0 _ rfl))).trans rfl)
theorem dk_127 {code : ByteArray} {pc : Nat} (h : DkAt code pc [127]) : decode code pc = .ok (.land, 1) := dk_of ((dk_bind (dk_u1 (h 0 _ rfl))).trans rfl)
theorem dk_128 {code : ByteArray} {pc : Nat} (h : DkAt code pc [128]) : decode code pc = .ok (.ior, 1) := dk_of ((dk_bind (dk_u1 (h 0 _ rfl))).trans rfl)
theorem dk_129 {code : ByteArray} {pc : Nat} (h : DkAt code pc [129]) : decode code pc = .ok (.lor, 1) := dk_of ((dk_bind (dk_u1 (h 0 _ rfl))).trans rfl)
theorem dk_130 {code : ByteArray} {pc : Nat} (h : DkAt code pc [130]) : decode code pc = .ok (.ixor, 1) := dk_of ((dk_bind (dk_u1 (h 0 _ rfl))).trans rfl)
theorem dk_131 {code : ByteArray} {pc : Nat} (h : DkAt code pc [131]) : decode code pc = .ok (.lxor, 1) := dk_of ((dk_bind (dk_u1 (h 0 _ rfl))).trans rfl)
theorem dk_132 {code : ByteArray} {pc : Nat} (a b : UInt8) (h : DkAt code pc [132, a, b]) : decode code pc = .ok (.iinc a.toNat (Reader.signed 8 b.toNat), 3) := dk_of ((dk_bind (dk_u1 (h 0 _ rfl))).trans ((dk_bind (dk_u1 (h 1 _ rfl))).trans ((dk_bind (dk_map (dk_u1 (h 2 _ rfl)))).trans rfl)))
theorem dk_133 {code : ByteArray} {pc : Nat} (h : DkAt code pc [133]) : decode code pc = .ok (.i2l, 1) := dk_of ((dk_bind (dk_u1 (h 0 _ rfl))).trans rfl)
theorem dk_136 {code : ByteArray} {pc : Nat} (h : DkAt code pc [136]) : decode code pc = .ok (.l2i, 1) := dk_of ((dk_bind (dk_u1 (h 0 _ rfl))).trans rfl)
theorem dk_145 {code : ByteArray} {pc : Nat} (h : DkAt code pc [145]) : decode code pc = .ok (.i2b, 1) := dk_of ((dk_bind (dk_u1 (h 0 _ rfl))).trans rfl)
theorem dk_146 {code : ByteArray} {pc : Nat} (h : DkAt code pc [146]) : decode code pc = .ok (.i2c, 1) := dk_of ((dk_bind (dk_u1 (h 0 _ rfl))).trans rfl)
theorem dk_148 {code : ByteArray} {pc : Nat} (h : DkAt code pc [148]) : decode code pc = .ok (.lcmp, 1) := dk_of ((dk_bind (dk_u1 (h 0 _ rfl))).trans rfl)
theorem dk_153 {code : ByteArray} {pc : Nat} (a b : UInt8) (h : DkAt code pc [153, a, b]) : decode code pc = .ok (.ifCond .eq (Reader.signed 16 (a.toNat * 256 + b.toNat)), 3) := dk_of ((dk_bind (dk_u1 (h 0 _ rfl))).trans ((dk_bind (dk_map (dk_u2 (h 1 _ rfl) (h 2 _ rfl)))).trans rfl))
theorem dk_154 {code : ByteArray} {pc : Nat} (a b : UInt8) (h : DkAt code pc [154, a, b]) : decode code pc = .ok (.ifCond .ne (Reader.signed 16 (a.toNat * 256 + b.toNat)), 3) := dk_of ((dk_bind (dk_u1 (h 0 _ rfl))).trans ((dk_bind (dk_map (dk_u2 (h 1 _ rfl) (h 2 _ rfl)))).trans rfl))
theorem dk_155 {code : ByteArray} {pc : Nat} (a b : UInt8) (h : DkAt code pc [155, a, b]) : decode code pc = .ok (.ifCond .lt (Reader.signed 16 (a.toNat * 256 + b.toNat)), 3) := dk_of ((dk_bind (dk_u1 (h 0 _ rfl))).trans ((dk_bind (dk_map (dk_u2 (h 1 _ rfl) (h 2 _ rfl)))).trans rfl))
theorem dk_156 {code : ByteArray} {pc : Nat} (a b : UInt8) (h : DkAt code pc [156, a, b]) : decode code pc = .ok (.ifCond .ge (Reader.signed 16 (a.toNat * 256 + b.toNat)), 3) := dk_of ((dk_bind (dk_u1 (h 0 _ rfl))).trans ((dk_bind (dk_map (dk_u2 (h 1 _ rfl) (h 2 _ rfl)))).trans rfl))
theorem dk_157 {code : ByteArray} {pc : Nat} (a b : UInt8) (h : DkAt code pc [157, a, b]) : decode code pc = .ok (.ifCond .gt (Reader.signed 16 (a.toNat * 256 + b.toNat)), 3) := dk_of ((dk_bind (dk_u1 (h 0 _ rfl))).trans ((dk_bind (dk_map (dk_u2 (h 1 _ rfl) (h 2 _ rfl)))).trans rfl))
theorem dk_158 {code : ByteArray} {pc : Nat} (a b : UInt8) (h : DkAt code pc [158, a, b]) : decode code pc = .ok (.ifCond .le (Reader.signed 16 (a.toNat * 256 + b.toNat)), 3) := dk_of ((dk_bind (dk_u1 (h 0 _ rfl))).trans ((dk_bind (dk_map (dk_u2 (h 1 _ rfl) (h 2 _ rfl)))).trans rfl))
theorem dk_159 {code : ByteArray} {pc : Nat} (a b : UInt8) (h : DkAt code pc [159, a, b]) : decode code pc = .ok (.if_icmp .eq (Reader.signed 16 (a.toNat * 256 + b.toNat)), 3) := dk_of ((dk_bind (dk_u1 (h 0 _ rfl))).trans ((dk_bind (dk_map (dk_u2 (h 1 _ rfl) (h 2 _ rfl)))).trans rfl))
theorem dk_160 {code : ByteArray} {pc : Nat} (a b : UInt8) (h : DkAt code pc [160, a, b]) : decode code pc = .ok (.if_icmp .ne (Reader.signed 16 (a.toNat * 256 + b.toNat)), 3) := dk_of ((dk_bind (dk_u1 (h 0 _ rfl))).trans ((dk_bind (dk_map (dk_u2 (h 1 _ rfl) (h 2 _ rfl)))).trans rfl))
theorem dk_161 {code : ByteArray} {pc : Nat} (a b : UInt8) (h : DkAt code pc [161, a, b]) : decode code pc = .ok (.if_icmp .lt (Reader.signed 16 (a.toNat * 256 + b.toNat)), 3) := dk_of ((dk_bind (dk_u1 (h 0 _ rfl))).trans ((dk_bind (dk_map (dk_u2 (h 1 _ rfl) (h 2 _ rfl)))).trans rfl))
theorem dk_162 {code : ByteArray} {pc : Nat} (a b : UInt8) (h : DkAt code pc [162, a, b]) : decode code pc = .ok (.if_icmp .ge (Reader.signed 16 (a.toNat * 256 + b.toNat)), 3) := dk_of ((dk_bind (dk_u1 (h 0 _ rfl))).trans ((dk_bind (dk_map (dk_u2 (h 1 _ rfl) (h 2 _ rfl)))).trans rfl))
theorem dk_163 {code : ByteArray} {pc : Nat} (a b : UInt8) (h : DkAt code pc [163, a, b]) : decode code pc = .ok (.if_icmp .gt (Reader.signed 16 (a.toNat * 256 + b.toNat)), 3) := dk_of ((dk_bind (dk_u1 (h 0 _ rfl))).trans ((dk_bind (dk_map (dk_u2 (h 1 _ rfl) (h 2 _ rfl)))).trans rfl))
theorem dk_164 {code : ByteArray} {pc : Nat} (a b : UInt8) (h : DkAt code pc [164, a, b]) : decode code pc = .ok (.if_icmp .le (Reader.signed 16 (a.toNat * 256 + b.toNat)), 3) := dk_of ((dk_bind (dk_u1 (h 0 _ rfl))).trans ((dk_bind (dk_map (dk_u2 (h 1 _ rfl) (h 2 _ rfl)))).trans rfl))
theorem dk_167 {code : ByteArray} {pc : Nat} (a b : UInt8) (h : DkAt code pc [167, a, b]) : decode code pc = .ok (.goto (Reader.signed 16 (a.toNat * 256 + b.toNat)), 3) := dk_of ((dk_bind (dk_u1 (h 0 _ rfl))).trans ((dk_bind (dk_map (dk_u2 (h 1 _ rfl) (h 2 _ rfl)))).trans rfl))
theorem dk_172 {code : ByteArray} {pc : Nat} (h : DkAt code pc [172]) : decode code pc = .ok (.ireturn, 1) := dk_of ((dk_bind (dk_u1 (h 0 _ rfl))).trans rfl)
theorem dk_173 {code : ByteArray} {pc : Nat} (h : DkAt code pc [173]) : decode code pc = .ok (.lreturn, 1) := dk_of ((dk_bind (dk_u1 (h 0 _ rfl))).trans rfl)
theorem dk_176 {code : ByteArray} {pc : Nat} (h : DkAt code pc [176]) : decode code pc = .ok (.areturn, 1) := dk_of ((dk_bind (dk_u1 (h 0 _ rfl))).trans rfl)
theorem dk_177 {code : ByteArray} {pc : Nat} (h : DkAt code pc [177]) : decode code pc = .ok (.return_, 1) := dk_of ((dk_bind (dk_u1 (h 0 _ rfl))).trans rfl)
theorem dk_178 {code : ByteArray} {pc : Nat} (a b : UInt8) (h : DkAt code pc [178, a, b]) : decode code pc = .ok (.getstatic (a.toNat * 256 + b.toNat), 3) := dk_of ((dk_bind (dk_u1 (h 0 _ rfl))).trans ((dk_bind (dk_u2 (h 1 _ rfl) (h 2 _ rfl))).trans rfl))
theorem dk_180 {code : ByteArray} {pc : Nat} (a b : UInt8) (h : DkAt code pc [180, a, b]) : decode code pc = .ok (.getfield (a.toNat * 256 + b.toNat), 3) := dk_of ((dk_bind (dk_u1 (h 0 _ rfl))).trans ((dk_bind (dk_u2 (h 1 _ rfl) (h 2 _ rfl))).trans rfl))
theorem dk_181 {code : ByteArray} {pc : Nat} (a b : UInt8) (h : DkAt code pc [181, a, b]) : decode code pc = .ok (.putfield (a.toNat * 256 + b.toNat), 3) := dk_of ((dk_bind (dk_u1 (h 0 _ rfl))).trans ((dk_bind (dk_u2 (h 1 _ rfl) (h 2 _ rfl))).trans rfl))
theorem dk_182 {code : ByteArray} {pc : Nat} (a b : UInt8) (h : DkAt code pc [182, a, b]) : decode code pc = .ok (.invokevirtual (a.toNat * 256 + b.toNat), 3) := dk_of ((dk_bind (dk_u1 (h 0 _ rfl))).trans ((dk_bind (dk_u2 (h 1 _ rfl) (h 2 _ rfl))).trans rfl))
theorem dk_183 {code : ByteArray} {pc : Nat} (a b : UInt8) (h : DkAt code pc [183, a, b]) : decode code pc = .ok (.invokespecial (a.toNat * 256 + b.toNat), 3) := dk_of ((dk_bind (dk_u1 (h 0 _ rfl))).trans ((dk_bind (dk_u2 (h 1 _ rfl) (h 2 _ rfl))).trans rfl))
theorem dk_184 {code : ByteArray} {pc : Nat} (a b : UInt8) (h : DkAt code pc [184, a, b]) : decode code pc = .ok (.invokestatic (a.toNat * 256 + b.toNat), 3) := dk_of ((dk_bind (dk_u1 (h 0 _ rfl))).trans ((dk_bind (dk_u2 (h 1 _ rfl) (h 2 _ rfl))).trans rfl))
theorem dk_187 {code : ByteArray} {pc : Nat} (a b : UInt8) (h : DkAt code pc [187, a, b]) : decode code pc = .ok (.new (a.toNat * 256 + b.toNat), 3) := dk_of ((dk_bind (dk_u1 (h 0 _ rfl))).trans ((dk_bind (dk_u2 (h 1 _ rfl) (h 2 _ rfl))).trans rfl))
theorem dk_188_4 {code : ByteArray} {pc : Nat} (h : DkAt code pc [188, 4]) : decode code pc = .ok (.newarray .boolean, 2) := dk_of ((dk_bind (dk_u1 (h 0 _ rfl))).trans ((dk_bind (dk_u1 (h 1 _ rfl))).trans rfl))
theorem dk_188_8 {code : ByteArray} {pc : Nat} (h : DkAt code pc [188, 8]) : decode code pc = .ok (.newarray .byte, 2) := dk_of ((dk_bind (dk_u1 (h 0 _ rfl))).trans ((dk_bind (dk_u1 (h 1 _ rfl))).trans rfl))
theorem dk_188_10 {code : ByteArray} {pc : Nat} (h : DkAt code pc [188, 10]) : decode code pc = .ok (.newarray .int, 2) := dk_of ((dk_bind (dk_u1 (h 0 _ rfl))).trans ((dk_bind (dk_u1 (h 1 _ rfl))).trans rfl))
theorem dk_188_11 {code : ByteArray} {pc : Nat} (h : DkAt code pc [188, 11]) : decode code pc = .ok (.newarray .long, 2) := dk_of ((dk_bind (dk_u1 (h 0 _ rfl))).trans ((dk_bind (dk_u1 (h 1 _ rfl))).trans rfl))
theorem dk_189 {code : ByteArray} {pc : Nat} (a b : UInt8) (h : DkAt code pc [189, a, b]) : decode code pc = .ok (.anewarray (a.toNat * 256 + b.toNat), 3) := dk_of ((dk_bind (dk_u1 (h 0 _ rfl))).trans ((dk_bind (dk_u2 (h 1 _ rfl) (h 2 _ rfl))).trans rfl))
theorem dk_190 {code : ByteArray} {pc : Nat} (h : DkAt code pc [190]) : decode code pc = .ok (.arraylength, 1) := dk_of ((dk_bind (dk_u1 (h 0 _ rfl))).trans rfl)
theorem dk_191 {code : ByteArray} {pc : Nat} (h : DkAt code pc [191]) : decode code pc = .ok (.athrow, 1) := dk_of ((dk_bind (dk_u1 (h 0 _ rfl))).trans rfl)
theorem dk_192 {code : ByteArray} {pc : Nat} (a b : UInt8) (h : DkAt code pc [192, a, b]) : decode code pc = .ok (.checkcast (a.toNat * 256 + b.toNat), 3) := dk_of ((dk_bind (dk_u1 (h 0 _ rfl))).trans ((dk_bind (dk_u2 (h 1 _ rfl) (h 2 _ rfl))).trans rfl))
theorem dk_198 {code : ByteArray} {pc : Nat} (a b : UInt8) (h : DkAt code pc [198, a, b]) : decode code pc = .ok (.ifnull (Reader.signed 16 (a.toNat * 256 + b.toNat)), 3) := dk_of ((dk_bind (dk_u1 (h 0 _ rfl))).trans ((dk_bind (dk_map (dk_u2 (h 1 _ rfl) (h 2 _ rfl)))).trans rfl))
theorem dk_199 {code : ByteArray} {pc : Nat} (a b : UInt8) (h : DkAt code pc [199, a, b]) : decode code pc = .ok (.ifnonnull (Reader.signed 16 (a.toNat * 256 + b.toNat)), 3) := dk_of ((dk_bind (dk_u1 (h 0 _ rfl))).trans ((dk_bind (dk_map (dk_u2 (h 1 _ rfl) (h 2 _ rfl)))).trans rfl))

/-! THE TABLES OF THE POOLS: ints, longs, texts, statics, fields, what may be put, methods (through an object, special, static), new, exceptions, arrays of references, what an array of references takes -/
abbrev DT : Type := (Nat → Nat → Option Int) × (Nat → Nat → Option Int) × (Nat → Nat → Option Nat) × (Nat → Nat → Option Nat) × (Nat → Nat → Option (Nat × Nat)) × (Nat → Nat → Nat → Bool → Bool) × (Nat → Nat → Option (Nat × Nat)) × (Nat → Nat → Option (Nat × Nat)) × (Nat → Nat → Option (Nat × Nat)) × (Nat → Nat → Option Nat) × (Nat → Nat → Nat → Option Nat) × (Nat → Nat → Option Nat) × (Nat → Bool)
def tI (T : DT) : Nat → Nat → Option Int := T.1
def tL (T : DT) : Nat → Nat → Option Int := T.2.1
def tG (T : DT) : Nat → Nat → Option Nat := T.2.2.1
def tS (T : DT) : Nat → Nat → Option Nat := T.2.2.2.1
def tF (T : DT) : Nat → Nat → Option (Nat × Nat) := T.2.2.2.2.1
def tU (T : DT) : Nat → Nat → Nat → Bool → Bool := T.2.2.2.2.2.1
def tV (T : DT) : Nat → Nat → Option (Nat × Nat) := T.2.2.2.2.2.2.1
def tP (T : DT) : Nat → Nat → Option (Nat × Nat) := T.2.2.2.2.2.2.2.1
def tC (T : DT) : Nat → Nat → Option (Nat × Nat) := T.2.2.2.2.2.2.2.2.1
def tN (T : DT) : Nat → Nat → Option Nat := T.2.2.2.2.2.2.2.2.2.1
def tX (T : DT) : Nat → Nat → Nat → Option Nat := T.2.2.2.2.2.2.2.2.2.2.1
def tA (T : DT) : Nat → Nat → Option Nat := T.2.2.2.2.2.2.2.2.2.2.2.1
def tR (T : DT) : Nat → Bool := T.2.2.2.2.2.2.2.2.2.2.2.2
theorem signed8 (x : UInt8) : -128 ≤ Reader.signed 8 x.toNat ∧ Reader.signed 8 x.toNat < 128 := by
  have := x.toNat_lt
  unfold Reader.signed
  split <;> omega
theorem push8 (x : UInt8) : cn 0 (Reader.signed 8 x.toNat) := by
  have := signed8 x
  exact ⟨by omega, by omega⟩
theorem push8v (x : UInt8) : (Int8.ofInt (Reader.signed 8 x.toNat)).toInt32 = Int32.ofInt (Reader.signed 8 x.toNat) := by
  have h := signed8 x
  apply Int32.toInt_inj.mp
  rw [Int8.toInt_toInt32, Int8.toInt_ofInt, to32, w32_id (push8 x)]
  have h8 : (Int8.size : Nat) = 256 := rfl
  rw [h8]
  exact Int.bmod_eq_of_le (by omega) (by omega)
theorem signed16 (x y : UInt8) : -32768 ≤ Reader.signed 16 (x.toNat * 256 + y.toNat) ∧ Reader.signed 16 (x.toNat * 256 + y.toNat) < 32768 := by
  have := x.toNat_lt
  have := y.toNat_lt
  unfold Reader.signed
  split <;> omega
theorem push16 (x y : UInt8) : cn 0 (Reader.signed 16 (x.toNat * 256 + y.toNat)) := by
  have := signed16 x y
  exact ⟨by omega, by omega⟩
theorem push16v (x y : UInt8) : (Int16.ofInt (Reader.signed 16 (x.toNat * 256 + y.toNat))).toInt32 = Int32.ofInt (Reader.signed 16 (x.toNat * 256 + y.toNat)) := by
  have h := signed16 x y
  apply Int32.toInt_inj.mp
  rw [Int16.toInt_toInt32, Int16.toInt_ofInt, to32, w32_id (push16 x y)]
  have h8 : (Int16.size : Nat) = 65536 := rfl
  rw [h8]
  exact Int.bmod_eq_of_le (by omega) (by omega)

def chkX (T : DT) (ow i : Nat) (r : List UInt8) (pc op a nx : Nat) : Bool := match r with
  | d :: k :: z :: w :: _ => op == 37 && d == 89 && k == 183 && tX T ow i (z.toNat * 256 + w.toNat) == some a && nx == pc + 7
  | _ => false
def chk0 (T : DT) (ow rk nl : Nat) (ini : Bool) (o : Nat) (r : List UInt8) (pc op a : Nat) (b : Int) (nx : Nat) : Bool := match o with
  | 1 => op == 2 && nx == pc + 1
  | 2 => op == 0 && b == (-1) && nx == pc + 1
  | 3 => op == 0 && b == (0) && nx == pc + 1
  | 4 => op == 0 && b == (1) && nx == pc + 1
  | 5 => op == 0 && b == (2) && nx == pc + 1
  | 6 => op == 0 && b == (3) && nx == pc + 1
  | 7 => op == 0 && b == (4) && nx == pc + 1
  | 8 => op == 0 && b == (5) && nx == pc + 1
  | 9 => op == 1 && b == (0) && nx == pc + 1
  | 10 => op == 1 && b == (1) && nx == pc + 1
  | 16 => (match r with
    | x :: _ => op == 0 && b == Reader.signed 8 x.toNat && nx == pc + 2
    | _ => false)
  | 17 => (match r with
    | x :: y :: _ => op == 0 && b == Reader.signed 16 (x.toNat * 256 + y.toNat) && nx == pc + 3
    | _ => false)
  | 18 => (match r with
    | x :: _ => ((op == 0 && tI T ow x.toNat == some b) || (op == 31 && tG T ow x.toNat == some a)) && nx == pc + 2
    | _ => false)
  | 19 => (match r with
    | x :: y :: _ => ((op == 0 && tI T ow (x.toNat * 256 + y.toNat) == some b) || (op == 31 && tG T ow (x.toNat * 256 + y.toNat) == some a)) && nx == pc + 3
    | _ => false)
  | 20 => (match r with
    | x :: y :: _ => op == 1 && tL T ow (x.toNat * 256 + y.toNat) == some b && nx == pc + 3
    | _ => false)
  | 21 => (match r with
    | x :: _ => op == 3 && a == x.toNat && b == 0 && nx == pc + 2
    | _ => false)
  | 22 => (match r with
    | x :: _ => op == 3 && a == x.toNat && b == 1 && nx == pc + 2
    | _ => false)
  | 25 => (match r with
    | x :: _ => op == 3 && a == x.toNat && b == 2 && nx == pc + 2
    | _ => false)
  | 26 => op == 3 && a == 0 && b == 0 && nx == pc + 1
  | 27 => op == 3 && a == 1 && b == 0 && nx == pc + 1
  | 28 => op == 3 && a == 2 && b == 0 && nx == pc + 1
  | 29 => op == 3 && a == 3 && b == 0 && nx == pc + 1
  | 30 => op == 3 && a == 0 && b == 1 && nx == pc + 1
  | 31 => op == 3 && a == 1 && b == 1 && nx == pc + 1
  | 32 => op == 3 && a == 2 && b == 1 && nx == pc + 1
  | 33 => op == 3 && a == 3 && b == 1 && nx == pc + 1
  | 42 => op == 3 && a == 0 && b == 2 && nx == pc + 1
  | 43 => op == 3 && a == 1 && b == 2 && nx == pc + 1
  | 44 => op == 3 && a == 2 && b == 2 && nx == pc + 1
  | 45 => op == 3 && a == 3 && b == 2 && nx == pc + 1
  | 46 => op == 24 && a == 0 && nx == pc + 1
  | 47 => op == 24 && a == 1 && nx == pc + 1
  | 50 => op == 24 && Nat.ble 4 a && nx == pc + 1
  | 51 => op == 24 && (a == 2 || a == 3) && nx == pc + 1
  | 54 => (match r with
    | x :: _ => op == 4 && a == x.toNat && b == 0 && nx == pc + 2 && Nat.blt a nl
    | _ => false)
  | 55 => (match r with
    | x :: _ => op == 5 && a == x.toNat && nx == pc + 2 && Nat.blt (a + 1) nl
    | _ => false)
  | 58 => (match r with
    | x :: _ => op == 4 && a == x.toNat && b == 2 && nx == pc + 2 && Nat.blt a nl
    | _ => false)
  | 59 => op == 4 && a == 0 && b == 0 && nx == pc + 1 && Nat.blt a nl
  | 60 => op == 4 && a == 1 && b == 0 && nx == pc + 1 && Nat.blt a nl
  | 61 => op == 4 && a == 2 && b == 0 && nx == pc + 1 && Nat.blt a nl
  | 62 => op == 4 && a == 3 && b == 0 && nx == pc + 1 && Nat.blt a nl
  | 63 => op == 5 && a == 0 && nx == pc + 1 && Nat.blt (a + 1) nl
  | 64 => op == 5 && a == 1 && nx == pc + 1 && Nat.blt (a + 1) nl
  | 65 => op == 5 && a == 2 && nx == pc + 1 && Nat.blt (a + 1) nl
  | 66 => op == 5 && a == 3 && nx == pc + 1 && Nat.blt (a + 1) nl
  | 76 => op == 4 && a == 1 && b == 2 && nx == pc + 1 && Nat.blt a nl
  | 77 => op == 4 && a == 2 && b == 2 && nx == pc + 1 && Nat.blt a nl
  | 78 => op == 4 && a == 3 && b == 2 && nx == pc + 1 && Nat.blt a nl
  | 79 => op == 25 && a == 0 && nx == pc + 1
  | 80 => op == 25 && a == 1 && nx == pc + 1
  | 83 => op == 26 && tR T a && nx == pc + 1
  | 84 => op == 25 && (a == 2 || a == 3) && nx == pc + 1
  | 87 => op == 15 && nx == pc + 1
  | 89 => op == 12 && nx == pc + 1
  | 92 => op == 14 && nx == pc + 1
  | 96 => op == 7 && a == 96 && nx == pc + 1
  | 97 => op == 8 && a == 97 && nx == pc + 1
  | 100 => op == 7 && a == 100 && nx == pc + 1
  | 101 => op == 8 && a == 101 && nx == pc + 1
  | 104 => op == 7 && a == 104 && nx == pc + 1
  | 105 => op == 8 && a == 105 && nx == pc + 1
  | 108 => op == 7 && a == 108 && nx == pc + 1
  | 109 => op == 8 && a == 109 && nx == pc + 1
  | 112 => op == 7 && a == 112 && nx == pc + 1
  | 113 => op == 8 && a == 113 && nx == pc + 1
  | 116 => op == 10 && a == 0 && nx == pc + 1
  | 117 => op == 10 && a == 1 && nx == pc + 1
  | 120 => op == 7 && a == 120 && nx == pc + 1
  | 121 => op == 9 && a == 121 && nx == pc + 1
  | 122 => op == 7 && a == 122 && nx == pc + 1
  | 123 => op == 9 && a == 123 && nx == pc + 1
  | 124 => op == 7 && a == 124 && nx == pc + 1
  | 125 => op == 9 && a == 125 && nx == pc + 1
  | 126 => op == 7 && a == 126 && nx == pc + 1
  | 127 => op == 8 && a == 127 && nx == pc + 1
  | 128 => op == 7 && a == 128 && nx == pc + 1
  | 129 => op == 8 && a == 129 && nx == pc + 1
  | 130 => op == 7 && a == 130 && nx == pc + 1
  | 131 => op == 8 && a == 131 && nx == pc + 1
  | 132 => (match r with
    | x :: y :: _ => op == 6 && a == x.toNat && b == Reader.signed 8 y.toNat && nx == pc + 3 && Nat.blt a nl
    | _ => false)
  | 133 => op == 10 && a == 2 && nx == pc + 1
  | 136 => op == 10 && a == 3 && nx == pc + 1
  | 145 => op == 10 && a == 4 && nx == pc + 1
  | 146 => op == 10 && a == 5 && nx == pc + 1
  | 148 => op == 11 && nx == pc + 1
  | 153 => (match r with
    | x :: y :: _ => op == 16 && a == 0 && decide ((pc : Int) + Reader.signed 16 (x.toNat * 256 + y.toNat) = (b.toNat : Int)) && nx == pc + 3
    | _ => false)
  | 154 => (match r with
    | x :: y :: _ => op == 16 && a == 1 && decide ((pc : Int) + Reader.signed 16 (x.toNat * 256 + y.toNat) = (b.toNat : Int)) && nx == pc + 3
    | _ => false)
  | 155 => (match r with
    | x :: y :: _ => op == 16 && a == 2 && decide ((pc : Int) + Reader.signed 16 (x.toNat * 256 + y.toNat) = (b.toNat : Int)) && nx == pc + 3
    | _ => false)
  | 156 => (match r with
    | x :: y :: _ => op == 16 && a == 3 && decide ((pc : Int) + Reader.signed 16 (x.toNat * 256 + y.toNat) = (b.toNat : Int)) && nx == pc + 3
    | _ => false)
  | 157 => (match r with
    | x :: y :: _ => op == 16 && a == 4 && decide ((pc : Int) + Reader.signed 16 (x.toNat * 256 + y.toNat) = (b.toNat : Int)) && nx == pc + 3
    | _ => false)
  | 158 => (match r with
    | x :: y :: _ => op == 16 && a == 5 && decide ((pc : Int) + Reader.signed 16 (x.toNat * 256 + y.toNat) = (b.toNat : Int)) && nx == pc + 3
    | _ => false)
  | 159 => (match r with
    | x :: y :: _ => op == 17 && a == 0 && decide ((pc : Int) + Reader.signed 16 (x.toNat * 256 + y.toNat) = (b.toNat : Int)) && nx == pc + 3
    | _ => false)
  | 160 => (match r with
    | x :: y :: _ => op == 17 && a == 1 && decide ((pc : Int) + Reader.signed 16 (x.toNat * 256 + y.toNat) = (b.toNat : Int)) && nx == pc + 3
    | _ => false)
  | 161 => (match r with
    | x :: y :: _ => op == 17 && a == 2 && decide ((pc : Int) + Reader.signed 16 (x.toNat * 256 + y.toNat) = (b.toNat : Int)) && nx == pc + 3
    | _ => false)
  | 162 => (match r with
    | x :: y :: _ => op == 17 && a == 3 && decide ((pc : Int) + Reader.signed 16 (x.toNat * 256 + y.toNat) = (b.toNat : Int)) && nx == pc + 3
    | _ => false)
  | 163 => (match r with
    | x :: y :: _ => op == 17 && a == 4 && decide ((pc : Int) + Reader.signed 16 (x.toNat * 256 + y.toNat) = (b.toNat : Int)) && nx == pc + 3
    | _ => false)
  | 164 => (match r with
    | x :: y :: _ => op == 17 && a == 5 && decide ((pc : Int) + Reader.signed 16 (x.toNat * 256 + y.toNat) = (b.toNat : Int)) && nx == pc + 3
    | _ => false)
  | 167 => (match r with
    | x :: y :: _ => op == 20 && decide ((pc : Int) + Reader.signed 16 (x.toNat * 256 + y.toNat) = (b.toNat : Int))
    | _ => false)
  | 172 => (op == 39 && a == 0 && rk == 1) || (op == 40 && rk == 4) || (op == 45 && ((a == 4 && rk == 5) || (a == 5 && rk == 6)))
  | 173 => op == 39 && a == 1 && rk == 2
  | 176 => op == 39 && a == 2 && rk == 3
  | 177 => op == 41 && rk == 0
  | 178 => (match r with
    | x :: y :: _ => op == 31 && tS T ow (x.toNat * 256 + y.toNat) == some a && nx == pc + 3
    | _ => false)
  | 180 => (match r with
    | x :: y :: _ => op == 22 && tF T ow (x.toNat * 256 + y.toNat) == some (a, b.toNat) && nx == pc + 3
    | _ => false)
  | 181 => (match r with
    | x :: y :: _ => op == 23 && tF T ow (x.toNat * 256 + y.toNat) == some (a, b.toNat) && tU T ow a b.toNat ini && nx == pc + 3
    | _ => false)
  | 182 => (match r with
    | x :: y :: _ => tV T ow (x.toNat * 256 + y.toNat) == some (op, a) && nx == pc + 3
    | _ => false)
  | 183 => (match r with
    | x :: y :: _ => tP T ow (x.toNat * 256 + y.toNat) == some (op, a) && nx == pc + 3
    | _ => false)
  | 184 => (match r with
    | x :: y :: _ => tC T ow (x.toNat * 256 + y.toNat) == some (op, a) && nx == pc + 3
    | _ => false)
  | 187 => (match r with
    | x :: y :: r2 => (op == 29 && tN T ow (x.toNat * 256 + y.toNat) == some a && nx == pc + 3) || chkX T ow (x.toNat * 256 + y.toNat) r2 pc op a nx
    | _ => false)
  | 188 => (match r with
    | x :: _ => op == 28 && nx == pc + 2 && ((x == 10 && a == 0) || (x == 11 && a == 1) || (x == 8 && a == 2) || (x == 4 && a == 3))
    | _ => false)
  | 189 => (match r with
    | x :: y :: _ => op == 30 && tA T ow (x.toNat * 256 + y.toNat) == some a && nx == pc + 3
    | _ => false)
  | 190 => op == 27 && nx == pc + 1
  | 191 => op == 38
  | 198 => (match r with
    | x :: y :: _ => op == 18 && decide ((pc : Int) + Reader.signed 16 (x.toNat * 256 + y.toNat) = (b.toNat : Int)) && nx == pc + 3
    | _ => false)
  | 199 => (match r with
    | x :: y :: _ => op == 19 && decide ((pc : Int) + Reader.signed 16 (x.toNat * 256 + y.toNat) = (b.toNat : Int)) && nx == pc + 3
    | _ => false)
  | _ => false
