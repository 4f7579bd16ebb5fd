/-! DECODE ROWS BY BYTES: one lemma an opcode; a method's code is cut into short pieces once, and a row reads its own piece alone. -/
set_option maxRecDepth 100000
/-- the code has just these bytes from pc on -/
def DkAt (code : ByteArray) (pc : Nat) (bs : List UInt8) : Prop := ∀ (j : Nat) (b : UInt8), bs[j]? = some b → code.data.toList[pc + j]? = some b
/-- the piece W has the bytes bs from its place j on -/
def dkIn (W : List UInt8) (j : Nat) (bs : List UInt8) : Bool := decide ((W.drop j).take bs.length = bs)
theorem dk_seg {l W T : List UInt8} {o o2 : Nat} (h : l.drop o = W ++ T) (n : Nat) (hn : W.length = n) (ho : o + n = o2) : l.drop o2 = T := by
  subst ho
  rw [← List.drop_drop, h, List.drop_left' hn]
theorem dk_at {code : ByteArray} {W T bs : List UInt8} {o pc : Nat} (h : code.data.toList.drop o = W ++ T) (j : Nat) (hp : o + j = pc) (hw : dkIn W j bs = true) : DkAt code pc bs := by
  subst hp
  intro i b e
  have h1 := of_decide_eq_true hw
  have h2 : i < bs.length := (List.getElem?_eq_some_iff.mp e).1
  have h3 : W[j + i]? = some b := by
    rw [← h1, List.getElem?_take, if_pos h2, List.getElem?_drop] at e
    exact e
  have h4 : j + i < W.length := (List.getElem?_eq_some_iff.mp h3).1
  have h5 : (code.data.toList.drop o)[j + i]? = some b := by
    rw [h, List.getElem?_append_left h4]
    exact h3
  rw [List.getElem?_drop, ← Nat.add_assoc] at h5
  exact h5
theorem dk_u1 {A : ByteArray} {p : Nat} {b : UInt8} (h : A.data.toList[p]? = some b) : (Reader.u1 : Reader DecodeError Nat) A p = .ok (b.toNat, p + 1) := by
  obtain ⟨h1, h2⟩ := List.getElem?_eq_some_iff.mp h
  have h3 : p < A.size := by simpa using h1
  have h4 : A[p]'h3 = b := h2
  have e : (Reader.u1 : Reader DecodeError Nat) A p = (if h : p < A.size then .ok (A[p].toNat, p + 1) else .error (HasTruncated.truncated p)) := by
    show (do if h : p < A.size then do set (p + 1); Pure.pure A[p].toNat else MonadExcept.throw (HasTruncated.truncated p) : Reader DecodeError Nat) A p = _
    by_cases hi : p < A.size
    · rw [dif_pos hi, dif_pos hi]; rfl
    · rw [dif_neg hi, dif_neg hi]; rfl
  rw [e, dif_pos h3, h4]
theorem dk_bind {α β : Type} {r : Reader DecodeError α} {f : α → Reader DecodeError β} {A : ByteArray} {p s : Nat} {a : α} (h : r A p = .ok (a, s)) : (r >>= f) A p = f a A s := by
  show (do let (a, s) ← r A p; f a A s : Except DecodeError (β × Nat)) = _
  rw [h]
  rfl
theorem dk_map {α β : Type} {r : Reader DecodeError α} {g : α → β} {A : ByteArray} {p s : Nat} {a : α} (h : r A p = .ok (a, s)) : (g <$> r) A p = .ok (g a, s) := by
  show (do let (a, s) ← r A p; .ok (g a, s) : Except DecodeError (β × Nat)) = _
  rw [h]
  rfl
theorem dk_u2 {A : ByteArray} {p : Nat} {a b : UInt8} (h : A.data.toList[p]? = some a) (h2 : A.data.toList[p + 1]? = some b) : (Reader.u2 : Reader DecodeError Nat) A p = .ok (a.toNat * 256 + b.toNat, p + 2) := by
  show (Reader.u1 >>= fun hi => Reader.u1 >>= fun lo => Pure.pure (hi * 256 + lo) : Reader DecodeError Nat) A p = _
  rw [dk_bind (dk_u1 h), dk_bind (dk_u1 h2)]
  rfl
theorem dk_of {code : ByteArray} {pc n : Nat} {i : Instr} (h : Decoder.instr pc code pc = .ok (i, pc + n)) : decode code pc = .ok (i, n) := by
  have e : decode code pc = (match Decoder.instr pc code pc with | .error x => .error x | .ok (j, s) => .ok (j, s - pc)) := by
    show (do let (j, s) ← Decoder.instr pc code pc; Pure.pure (j, s - pc) : Except DecodeError (Instr × Nat)) = _
    cases Decoder.instr pc code pc <;> rfl
  rw [e, h]
  show Except.ok (i, pc + n - pc) = _
  rw [Nat.add_sub_cancel_left]
theorem dk_1 {code : ByteArray} {pc : Nat} (h : DkAt code pc [1]) : decode code pc = .ok (.aconst_null, 1) := dk_of ((dk_bind (dk_u1 (h 0 _ rfl))).trans rfl)
theorem dk_2 {code : ByteArray} {pc : Nat} (h : DkAt code pc [2]) : decode code pc = .ok (.iconst (-1), 1) := dk_of ((dk_bind (dk_u1 (h 0 _ rfl))).trans rfl)
theorem dk_3 {code : ByteArray} {pc : Nat} (h : DkAt code pc [3]) : decode code pc = .ok (.iconst 0, 1) := dk_of ((dk_bind (dk_u1 (h 0 _ rfl))).trans rfl)
theorem dk_4 {code : ByteArray} {pc : Nat} (h : DkAt code pc [4]) : decode code pc = .ok (.iconst 1, 1) := dk_of ((dk_bind (dk_u1 (h 0 _ rfl))).trans rfl)
theorem dk_5 {code : ByteArray} {pc : Nat} (h : DkAt code pc [5]) : decode code pc = .ok (.iconst 2, 1) := dk_of ((dk_bind (dk_u1 (h 0 _ rfl))).trans rfl)
theorem dk_6 {code : ByteArray} {pc : Nat} (h : DkAt code pc [6]) : decode code pc = .ok (.iconst 3, 1) := dk_of ((dk_bind (dk_u1 (h 0 _ rfl))).trans rfl)
theorem dk_7 {code : ByteArray} {pc : Nat} (h : DkAt code pc [7]) : decode code pc = .ok (.iconst 4, 1) := dk_of ((dk_bind (dk_u1 (h 0 _ rfl))).trans rfl)
theorem dk_8 {code : ByteArray} {pc : Nat} (h : DkAt code pc [8]) : decode code pc = .ok (.iconst 5, 1) := dk_of ((dk_bind (dk_u1 (h 0 _ rfl))).trans rfl)
theorem dk_9 {code : ByteArray} {pc : Nat} (h : DkAt code pc [9]) : decode code pc = .ok (.lconst 0, 1) := dk_of ((dk_bind (dk_u1 (h 0 _ rfl))).trans rfl)
theorem dk_10 {code : ByteArray} {pc : Nat} (h : DkAt code pc [10]) : decode code pc = .ok (.lconst 1, 1) := dk_of ((dk_bind (dk_u1 (h 0 _ rfl))).trans rfl)
theorem dk_16 {code : ByteArray} {pc : Nat} (a : UInt8) (h : DkAt code pc [16, a]) : decode code pc = .ok (.bipush (Reader.signed 8 a.toNat), 2) := dk_of ((dk_bind (dk_u1 (h 0 _ rfl))).trans ((dk_bind (dk_map (dk_u1 (h 1 _ rfl)))).trans rfl))
theorem dk_17 {code : ByteArray} {pc : Nat} (a b : UInt8) (h : DkAt code pc [17, a, b]) : decode code pc = .ok (.sipush (Reader.signed 16 (a.toNat * 256 + b.toNat)), 3) := dk_of ((dk_bind (dk_u1 (h 0 _ rfl))).trans ((dk_bind (dk_map (dk_u2 (h 1 _ rfl) (h 2 _ rfl)))).trans rfl))
theorem dk_18 {code : ByteArray} {pc : Nat} (a : UInt8) (h : DkAt code pc [18, a]) : decode code pc = .ok (.ldc a.toNat, 2) := dk_of ((dk_bind (dk_u1 (h 0 _ rfl))).trans ((dk_bind (dk_u1 (h 1 _ rfl))).trans rfl))
theorem dk_19 {code : ByteArray} {pc : Nat} (a b : UInt8) (h : DkAt code pc [19, a, b]) : decode code pc = .ok (.ldc_w (a.toNat * 256 + b.toNat), 3) := dk_of ((dk_bind (dk_u1 (h 0 _ rfl))).trans ((dk_bind (dk_u2 (h 1 _ rfl) (h 2 _ rfl))).trans rfl))
theorem dk_20 {code : ByteArray} {pc : Nat} (a b : UInt8) (h : DkAt code pc [20, a, b]) : decode code pc = .ok (.ldc2_w (a.toNat * 256 + b.toNat), 3) := dk_of ((dk_bind (dk_u1 (h 0 _ rfl))).trans ((dk_bind (dk_u2 (h 1 _ rfl) (h 2 _ rfl))).trans rfl))
theorem dk_21 {code : ByteArray} {pc : Nat} (a : UInt8) (h : DkAt code pc [21, a]) : decode code pc = .ok (.iload a.toNat, 2) := dk_of ((dk_bind (dk_u1 (h 0 _ rfl))).trans ((dk_bind (dk_u1 (h 1 _ rfl))).trans rfl))
theorem dk_22 {code : ByteArray} {pc : Nat} (a : UInt8) (h : DkAt code pc [22, a]) : decode code pc = .ok (.lload a.toNat, 2) := dk_of ((dk_bind (dk_u1 (h 0 _ rfl))).trans ((dk_bind (dk_u1 (h 1 _ rfl))).trans rfl))
theorem dk_25 {code : ByteArray} {pc : Nat} (a : UInt8) (h : DkAt code pc [25, a]) : decode code pc = .ok (.aload a.toNat, 2) := dk_of ((dk_bind (dk_u1 (h 0 _ rfl))).trans ((dk_bind (dk_u1 (h 1 _ rfl))).trans rfl))
theorem dk_26 {code : ByteArray} {pc : Nat} (h : DkAt code pc [26]) : decode code pc = .ok (.iload_n 0, 1) := dk_of ((dk_bind (dk_u1 (h 0 _ rfl))).trans rfl)
theorem dk_27 {code : ByteArray} {pc : Nat} (h : DkAt code pc [27]) : decode code pc = .ok (.iload_n 1, 1) := dk_of ((dk_bind (dk_u1 (h 0 _ rfl))).trans rfl)
theorem dk_28 {code : ByteArray} {pc : Nat} (h : DkAt code pc [28]) : decode code pc = .ok (.iload_n 2, 1) := dk_of ((dk_bind (dk_u1 (h 0 _ rfl))).trans rfl)
theorem dk_29 {code : ByteArray} {pc : Nat} (h : DkAt code pc [29]) : decode code pc = .ok (.iload_n 3, 1) := dk_of ((dk_bind (dk_u1 (h 0 _ rfl))).trans rfl)
theorem dk_30 {code : ByteArray} {pc : Nat} (h : DkAt code pc [30]) : decode code pc = .ok (.lload_n 0, 1) := dk_of ((dk_bind (dk_u1 (h 0 _ rfl))).trans rfl)
theorem dk_31 {code : ByteArray} {pc : Nat} (h : DkAt code pc [31]) : decode code pc = .ok (.lload_n 1, 1) := dk_of ((dk_bind (dk_u1 (h 0 _ rfl))).trans rfl)
theorem dk_32 {code : ByteArray} {pc : Nat} (h : DkAt code pc [32]) : decode code pc = .ok (.lload_n 2, 1) := dk_of ((dk_bind (dk_u1 (h 0 _ rfl))).trans rfl)
theorem dk_33 {code : ByteArray} {pc : Nat} (h : DkAt code pc [33]) : decode code pc = .ok (.lload_n 3, 1) := dk_of ((dk_bind (dk_u1 (h 0 _ rfl))).trans rfl)
theorem dk_42 {code : ByteArray} {pc : Nat} (h : DkAt code pc [42]) : decode code pc = .ok (.aload_n 0, 1) := dk_of ((dk_bind (dk_u1 (h 0 _ rfl))).trans rfl)
theorem dk_43 {code : ByteArray} {pc : Nat} (h : DkAt code pc [43]) : decode code pc = .ok (.aload_n 1, 1) := dk_of ((dk_bind (dk_u1 (h 0 _ rfl))).trans rfl)
theorem dk_44 {code : ByteArray} {pc : Nat} (h : DkAt code pc [44]) : decode code pc = .ok (.aload_n 2, 1) := dk_of ((dk_bind (dk_u1 (h 0 _ rfl))).trans rfl)
theorem dk_45 {code : ByteArray} {pc : Nat} (h : DkAt code pc [45]) : decode code pc = .ok (.aload_n 3, 1) := dk_of ((dk_bind (dk_u1 (h 0 _ rfl))).trans rfl)
theorem dk_46 {code : ByteArray} {pc : Nat} (h : DkAt code pc [46]) : decode code pc = .ok (.iaload, 1) := dk_of ((dk_bind (dk_u1 (h 0 _ rfl))).trans rfl)
theorem dk_47 {code : ByteArray} {pc : Nat} (h : DkAt code pc [47]) : decode code pc = .ok (.laload, 1) := dk_of ((dk_bind (dk_u1 (h 0 _ rfl))).trans rfl)
theorem dk_50 {code : ByteArray} {pc : Nat} (h : DkAt code pc [50]) : decode code pc = .ok (.aaload, 1) := dk_of ((dk_bind (dk_u1 (h 0 _ rfl))).trans rfl)
theorem dk_51 {code : ByteArray} {pc : Nat} (h : DkAt code pc [51]) : decode code pc = .ok (.baload, 1) := dk_of ((dk_bind (dk_u1 (h 0 _ rfl))).trans rfl)
theorem dk_53 {code : ByteArray} {pc : Nat} (h : DkAt code pc [53]) : decode code pc = .ok (.saload, 1) := dk_of ((dk_bind (dk_u1 (h 0 _ rfl))).trans rfl)
theorem dk_54 {code : ByteArray} {pc : Nat} (a : UInt8) (h : DkAt code pc [54, a]) : decode code pc = .ok (.istore a.toNat, 2) := dk_of ((dk_bind (dk_u1 (h 0 _ rfl))).trans ((dk_bind (dk_u1 (h 1 _ rfl))).trans rfl))
theorem dk_55 {code : ByteArray} {pc : Nat} (a : UInt8) (h : DkAt code pc [55, a]) : decode code pc = .ok (.lstore a.toNat, 2) := dk_of ((dk_bind (dk_u1 (h 0 _ rfl))).trans ((dk_bind (dk_u1 (h 1 _ rfl))).trans rfl))
theorem dk_58 {code : ByteArray} {pc : Nat} (a : UInt8) (h : DkAt code pc [58, a]) : decode code pc = .ok (.astore a.toNat, 2) := dk_of ((dk_bind (dk_u1 (h 0 _ rfl))).trans ((dk_bind (dk_u1 (h 1 _ rfl))).trans rfl))
theorem dk_59 {code : ByteArray} {pc : Nat} (h : DkAt code pc [59]) : decode code pc = .ok (.istore_n 0, 1) := dk_of ((dk_bind (dk_u1 (h 0 _ rfl))).trans rfl)
theorem dk_60 {code : ByteArray} {pc : Nat} (h : DkAt code pc [60]) : decode code pc = .ok (.istore_n 1, 1) := dk_of ((dk_bind (dk_u1 (h 0 _ rfl))).trans rfl)
theorem dk_61 {code : ByteArray} {pc : Nat} (h : DkAt code pc [61]) : decode code pc = .ok (.istore_n 2, 1) := dk_of ((dk_bind (dk_u1 (h 0 _ rfl))).trans rfl)
theorem dk_62 {code : ByteArray} {pc : Nat} (h : DkAt code pc [62]) : decode code pc = .ok (.istore_n 3, 1) := dk_of ((dk_bind (dk_u1 (h 0 _ rfl))).trans rfl)
theorem dk_65 {code : ByteArray} {pc : Nat} (h : DkAt code pc [65]) : decode code pc = .ok (.lstore_n 2, 1) := dk_of ((dk_bind (dk_u1 (h 0 _ rfl))).trans rfl)
theorem dk_66 {code : ByteArray} {pc : Nat} (h : DkAt code pc [66]) : decode code pc = .ok (.lstore_n 3, 1) := dk_of ((dk_bind (dk_u1 (h 0 _ rfl))).trans rfl)
theorem dk_76 {code : ByteArray} {pc : Nat} (h : DkAt code pc [76]) : decode code pc = .ok (.astore_n 1, 1) := dk_of ((dk_bind (dk_u1 (h 0 _ rfl))).trans rfl)
theorem dk_77 {code : ByteArray} {pc : Nat} (h : DkAt code pc [77]) : decode code pc = .ok (.astore_n 2, 1) := dk_of ((dk_bind (dk_u1 (h 0 _ rfl))).trans rfl)
theorem dk_78 {code : ByteArray} {pc : Nat} (h : DkAt code pc [78]) : decode code pc = .ok (.astore_n 3, 1) := dk_of ((dk_bind (dk_u1 (h 0 _ rfl))).trans rfl)
theorem dk_79 {code : ByteArray} {pc : Nat} (h : DkAt code pc [79]) : decode code pc = .ok (.iastore, 1) := dk_of ((dk_bind (dk_u1 (h 0 _ rfl))).trans rfl)
theorem dk_80 {code : ByteArray} {pc : Nat} (h : DkAt code pc [80]) : decode code pc = .ok (.lastore, 1) := dk_of ((dk_bind (dk_u1 (h 0 _ rfl))).trans rfl)
theorem dk_83 {code : ByteArray} {pc : Nat} (h : DkAt code pc [83]) : decode code pc = .ok (.aastore, 1) := dk_of ((dk_bind (dk_u1 (h 0 _ rfl))).trans rfl)
theorem dk_84 {code : ByteArray} {pc : Nat} (h : DkAt code pc [84]) : decode code pc = .ok (.bastore, 1) := dk_of ((dk_bind (dk_u1 (h 0 _ rfl))).trans rfl)
theorem dk_86 {code : ByteArray} {pc : Nat} (h : DkAt code pc [86]) : decode code pc = .ok (.sastore, 1) := dk_of ((dk_bind (dk_u1 (h 0 _ rfl))).trans rfl)
theorem dk_87 {code : ByteArray} {pc : Nat} (h : DkAt code pc [87]) : decode code pc = .ok (.pop, 1) := dk_of ((dk_bind (dk_u1 (h 0 _ rfl))).trans rfl)
theorem dk_89 {code : ByteArray} {pc : Nat} (h : DkAt code pc [89]) : decode code pc = .ok (.dup, 1) := dk_of ((dk_bind (dk_u1 (h 0 _ rfl))).trans rfl)
theorem dk_90 {code : ByteArray} {pc : Nat} (h : DkAt code pc [90]) : decode code pc = .ok (.dup_x1, 1) := dk_of ((dk_bind (dk_u1 (h 0 _ rfl))).trans rfl)
theorem dk_92 {code : ByteArray} {pc : Nat} (h : DkAt code pc [92]) : decode code pc = .ok (.dup2, 1) := dk_of ((dk_bind (dk_u1 (h 0 _ rfl))).trans rfl)
theorem dk_96 {code : ByteArray} {pc : Nat} (h : DkAt code pc [96]) : decode code pc = .ok (.iadd, 1) := dk_of ((dk_bind (dk_u1 (h 0 _ rfl))).trans rfl)
theorem dk_97 {code : ByteArray} {pc : Nat} (h : DkAt code pc [97]) : decode code pc = .ok (.ladd, 1) := dk_of ((dk_bind (dk_u1 (h 0 _ rfl))).trans rfl)
theorem dk_100 {code : ByteArray} {pc : Nat} (h : DkAt code pc [100]) : decode code pc = .ok (.isub, 1) := dk_of ((dk_bind (dk_u1 (h 0 _ rfl))).trans rfl)
theorem dk_101 {code : ByteArray} {pc : Nat} (h : DkAt code pc [101]) : decode code pc = .ok (.lsub, 1) := dk_of ((dk_bind (dk_u1 (h 0 _ rfl))).trans rfl)
theorem dk_104 {code : ByteArray} {pc : Nat} (h : DkAt code pc [104]) : decode code pc = .ok (.imul, 1) := dk_of ((dk_bind (dk_u1 (h 0 _ rfl))).trans rfl)
theorem dk_105 {code : ByteArray} {pc : Nat} (h : DkAt code pc [105]) : decode code pc = .ok (.lmul, 1) := dk_of ((dk_bind (dk_u1 (h 0 _ rfl))).trans rfl)
theorem dk_108 {code : ByteArray} {pc : Nat} (h : DkAt code pc [108]) : decode code pc = .ok (.idiv, 1) := dk_of ((dk_bind (dk_u1 (h 0 _ rfl))).trans rfl)
theorem dk_109 {code : ByteArray} {pc : Nat} (h : DkAt code pc [109]) : decode code pc = .ok (.ldiv, 1) := dk_of ((dk_bind (dk_u1 (h 0 _ rfl))).trans rfl)
theorem dk_112 {code : ByteArray} {pc : Nat} (h : DkAt code pc [112]) : decode code pc = .ok (.irem, 1) := dk_of ((dk_bind (dk_u1 (h 0 _ rfl))).trans rfl)
theorem dk_113 {code : ByteArray} {pc : Nat} (h : DkAt code pc [113]) : decode code pc = .ok (.lrem, 1) := dk_of ((dk_bind (dk_u1 (h 0 _ rfl))).trans rfl)
theorem dk_116 {code : ByteArray} {pc : Nat} (h : DkAt code pc [116]) : decode code pc = .ok (.ineg, 1) := dk_of ((dk_bind (dk_u1 (h 0 _ rfl))).trans rfl)
theorem dk_117 {code : ByteArray} {pc : Nat} (h : DkAt code pc [117]) : decode code pc = .ok (.lneg, 1) := dk_of ((dk_bind (dk_u1 (h 0 _ rfl))).trans rfl)
theorem dk_120 {code : ByteArray} {pc : Nat} (h : DkAt code pc [120]) : decode code pc = .ok (.ishl, 1) := dk_of ((dk_bind (dk_u1 (h 0 _ rfl))).trans rfl)
theorem dk_121 {code : ByteArray} {pc : Nat} (h : DkAt code pc [121]) : decode code pc = .ok (.lshl, 1) := dk_of ((dk_bind (dk_u1 (h 0 _ rfl))).trans rfl)
theorem dk_122 {code : ByteArray} {pc : Nat} (h : DkAt code pc [122]) : decode code pc = .ok (.ishr, 1) := dk_of ((dk_bind (dk_u1 (h 0 _ rfl))).trans rfl)
theorem dk_123 {code : ByteArray} {pc : Nat} (h : DkAt code pc [123]) : decode code pc = .ok (.lshr, 1) := dk_of ((dk_bind (dk_u1 (h 0 _ rfl))).trans rfl)
theorem dk_124 {code : ByteArray} {pc : Nat} (h : DkAt code pc [124]) : decode code pc = .ok (.iushr, 1) := dk_of ((dk_bind (dk_u1 (h 0 _ rfl))).trans rfl)
theorem dk_125 {code : ByteArray} {pc : Nat} (h : DkAt code pc [125]) : decode code pc = .ok (.lushr, 1) := dk_of ((dk_bind (dk_u1 (h 0 _ rfl))).trans rfl)
theorem dk_126 {code : ByteArray} {pc : Nat} (h : DkAt code pc [126]) : decode code pc = .ok (.iand, 1) := dk_of ((dk_bind (dk_u1 (h 0 _ rfl))).trans rfl)
theorem dk_127 {code : ByteArray} {pc : Nat} (h : DkAt code pc [127]) : decode code pc = .ok (.land, 1) := dk_of ((dk_bind (dk_u1 (h 0 _ rfl))).trans rfl)
theorem dk_128 {code : ByteArray} {pc : Nat} (h : DkAt code pc [128]) : decode code pc = .ok (.ior, 1) := dk_of ((dk_bind (dk_u1 (h 0 _ rfl))).trans rfl)
theorem dk_129 {code : ByteArray} {pc : Nat} (h : DkAt code pc [129]) : decode code pc = .ok (.lor, 1) := dk_of ((dk_bind (dk_u1 (h 0 _ rfl))).trans rfl)
theorem dk_130 {code : ByteArray} {pc : Nat} (h : DkAt code pc [130]) : decode code pc = .ok (.ixor, 1) := dk_of ((dk_bind (dk_u1 (h 0 _ rfl))).trans rfl)
theorem dk_131 {code : ByteArray} {pc : Nat} (h : DkAt code pc [131]) : decode code pc = .ok (.lxor, 1) := dk_of ((dk_bind (dk_u1 (h 0 _ rfl))).trans rfl)
theorem dk_132 {code : ByteArray} {pc : Nat} (a b : UInt8) (h : DkAt code pc [132, a, b]) : decode code pc = .ok (.iinc a.toNat (Reader.signed 8 b.toNat), 3) := dk_of ((dk_bind (dk_u1 (h 0 _ rfl))).trans ((dk_bind (dk_u1 (h 1 _ rfl))).trans ((dk_bind (dk_map (dk_u1 (h 2 _ rfl)))).trans rfl)))
theorem dk_133 {code : ByteArray} {pc : Nat} (h : DkAt code pc [133]) : decode code pc = .ok (.i2l, 1) := dk_of ((dk_bind (dk_u1 (h 0 _ rfl))).trans rfl)
theorem dk_136 {code : ByteArray} {pc : Nat} (h : DkAt code pc [136]) : decode code pc = .ok (.l2i, 1) := dk_of ((dk_bind (dk_u1 (h 0 _ rfl))).trans rfl)
theorem dk_145 {code : ByteArray} {pc : Nat} (h : DkAt code pc [145]) : decode code pc = .ok (.i2b, 1) := dk_of ((dk_bind (dk_u1 (h 0 _ rfl))).trans rfl)
theorem dk_147 {code : ByteArray} {pc : Nat} (h : DkAt code pc [147]) : decode code pc = .ok (.i2s, 1) := dk_of ((dk_bind (dk_u1 (h 0 _ rfl))).trans rfl)
theorem dk_148 {code : ByteArray} {pc : Nat} (h : DkAt code pc [148]) : decode code pc = .ok (.lcmp, 1) := dk_of ((dk_bind (dk_u1 (h 0 _ rfl))).trans rfl)
theorem dk_153 {code : ByteArray} {pc : Nat} (a b : UInt8) (h : DkAt code pc [153, a, b]) : decode code pc = .ok (.ifCond .eq (Reader.signed 16 (a.toNat * 256 + b.toNat)), 3) := dk_of ((dk_bind (dk_u1 (h 0 _ rfl))).trans ((dk_bind (dk_map (dk_u2 (h 1 _ rfl) (h 2 _ rfl)))).trans rfl))
theorem dk_154 {code : ByteArray} {pc : Nat} (a b : UInt8) (h : DkAt code pc [154, a, b]) : decode code pc = .ok (.ifCond .ne (Reader.signed 16 (a.toNat * 256 + b.toNat)), 3) := dk_of ((dk_bind (dk_u1 (h 0 _ rfl))).trans ((dk_bind (dk_map (dk_u2 (h 1 _ rfl) (h 2 _ rfl)))).trans rfl))
theorem dk_155 {code : ByteArray} {pc : Nat} (a b : UInt8) (h : DkAt code pc [155, a, b]) : decode code pc = .ok (.ifCond .lt (Reader.signed 16 (a.toNat * 256 + b.toNat)), 3) := dk_of ((dk_bind (dk_u1 (h 0 _ rfl))).trans ((dk_bind (dk_map (dk_u2 (h 1 _ rfl) (h 2 _ rfl)))).trans rfl))
theorem dk_156 {code : ByteArray} {pc : Nat} (a b : UInt8) (h : DkAt code pc [156, a, b]) : decode code pc = .ok (.ifCond .ge (Reader.signed 16 (a.toNat * 256 + b.toNat)), 3) := dk_of ((dk_bind (dk_u1 (h 0 _ rfl))).trans ((dk_bind (dk_map (dk_u2 (h 1 _ rfl) (h 2 _ rfl)))).trans rfl))
theorem dk_157 {code : ByteArray} {pc : Nat} (a b : UInt8) (h : DkAt code pc [157, a, b]) : decode code pc = .ok (.ifCond .gt (Reader.signed 16 (a.toNat * 256 + b.toNat)), 3) := dk_of ((dk_bind (dk_u1 (h 0 _ rfl))).trans ((dk_bind (dk_map (dk_u2 (h 1 _ rfl) (h 2 _ rfl)))).trans rfl))
theorem dk_158 {code : ByteArray} {pc : Nat} (a b : UInt8) (h : DkAt code pc [158, a, b]) : decode code pc = .ok (.ifCond .le (Reader.signed 16 (a.toNat * 256 + b.toNat)), 3) := dk_of ((dk_bind (dk_u1 (h 0 _ rfl))).trans ((dk_bind (dk_map (dk_u2 (h 1 _ rfl) (h 2 _ rfl)))).trans rfl))
theorem dk_159 {code : ByteArray} {pc : Nat} (a b : UInt8) (h : DkAt code pc [159, a, b]) : decode code pc = .ok (.if_icmp .eq (Reader.signed 16 (a.toNat * 256 + b.toNat)), 3) := dk_of ((dk_bind (dk_u1 (h 0 _ rfl))).trans ((dk_bind (dk_map (dk_u2 (h 1 _ rfl) (h 2 _ rfl)))).trans rfl))
theorem dk_160 {code : ByteArray} {pc : Nat} (a b : UInt8) (h : DkAt code pc [160, a, b]) : decode code pc = .ok (.if_icmp .ne (Reader.signed 16 (a.toNat * 256 + b.toNat)), 3) := dk_of ((dk_bind (dk_u1 (h 0 _ rfl))).trans ((dk_bind (dk_map (dk_u2 (h 1 _ rfl) (h 2 _ rfl)))).trans rfl))
theorem dk_161 {code : ByteArray} {pc : Nat} (a b : UInt8) (h : DkAt code pc [161, a, b]) : decode code pc = .ok (.if_icmp .lt (Reader.signed 16 (a.toNat * 256 + b.toNat)), 3) := dk_of ((dk_bind (dk_u1 (h 0 _ rfl))).trans ((dk_bind (dk_map (dk_u2 (h 1 _ rfl) (h 2 _ rfl)))).trans rfl))
theorem dk_162 {code : ByteArray} {pc : Nat} (a b : UInt8) (h : DkAt code pc [162, a, b]) : decode code pc = .ok (.if_icmp .ge (Reader.signed 16 (a.toNat * 256 + b.toNat)), 3) := dk_of ((dk_bind (dk_u1 (h 0 _ rfl))).trans ((dk_bind (dk_map (dk_u2 (h 1 _ rfl) (h 2 _ rfl)))).trans rfl))
theorem dk_163 {code : ByteArray} {pc : Nat} (a b : UInt8) (h : DkAt code pc [163, a, b]) : decode code pc = .ok (.if_icmp .gt (Reader.signed 16 (a.toNat * 256 + b.toNat)), 3) := dk_of ((dk_bind (dk_u1 (h 0 _ rfl))).trans ((dk_bind (dk_map (dk_u2 (h 1 _ rfl) (h 2 _ rfl)))).trans rfl))
theorem dk_164 {code : ByteArray} {pc : Nat} (a b : UInt8) (h : DkAt code pc [164, a, b]) : decode code pc = .ok (.if_icmp .le (Reader.signed 16 (a.toNat * 256 + b.toNat)), 3) := dk_of ((dk_bind (dk_u1 (h 0 _ rfl))).trans ((dk_bind (dk_map (dk_u2 (h 1 _ rfl) (h 2 _ rfl)))).trans rfl))
theorem dk_166 {code : ByteArray} {pc : Nat} (a b : UInt8) (h : DkAt code pc [166, a, b]) : decode code pc = .ok (.if_acmp .ne (Reader.signed 16 (a.toNat * 256 + b.toNat)), 3) := dk_of ((dk_bind (dk_u1 (h 0 _ rfl))).trans ((dk_bind (dk_map (dk_u2 (h 1 _ rfl) (h 2 _ rfl)))).trans rfl))
theorem dk_167 {code : ByteArray} {pc : Nat} (a b : UInt8) (h : DkAt code pc [167, a, b]) : decode code pc = .ok (.goto (Reader.signed 16 (a.toNat * 256 + b.toNat)), 3) := dk_of ((dk_bind (dk_u1 (h 0 _ rfl))).trans ((dk_bind (dk_map (dk_u2 (h 1 _ rfl) (h 2 _ rfl)))).trans rfl))
theorem dk_172 {code : ByteArray} {pc : Nat} (h : DkAt code pc [172]) : decode code pc = .ok (.ireturn, 1) := dk_of ((dk_bind (dk_u1 (h 0 _ rfl))).trans rfl)
theorem dk_173 {code : ByteArray} {pc : Nat} (h : DkAt code pc [173]) : decode code pc = .ok (.lreturn, 1) := dk_of ((dk_bind (dk_u1 (h 0 _ rfl))).trans rfl)
theorem dk_176 {code : ByteArray} {pc : Nat} (h : DkAt code pc [176]) : decode code pc = .ok (.areturn, 1) := dk_of ((dk_bind (dk_u1 (h 0 _ rfl))).trans rfl)
theorem dk_177 {code : ByteArray} {pc : Nat} (h : DkAt code pc [177]) : decode code pc = .ok (.return_, 1) := dk_of ((dk_bind (dk_u1 (h 0 _ rfl))).trans rfl)
theorem dk_178 {code : ByteArray} {pc : Nat} (a b : UInt8) (h : DkAt code pc [178, a, b]) : decode code pc = .ok (.getstatic (a.toNat * 256 + b.toNat), 3) := dk_of ((dk_bind (dk_u1 (h 0 _ rfl))).trans ((dk_bind (dk_u2 (h 1 _ rfl) (h 2 _ rfl))).trans rfl))
theorem dk_180 {code : ByteArray} {pc : Nat} (a b : UInt8) (h : DkAt code pc [180, a, b]) : decode code pc = .ok (.getfield (a.toNat * 256 + b.toNat), 3) := dk_of ((dk_bind (dk_u1 (h 0 _ rfl))).trans ((dk_bind (dk_u2 (h 1 _ rfl) (h 2 _ rfl))).trans rfl))
theorem dk_181 {code : ByteArray} {pc : Nat} (a b : UInt8) (h : DkAt code pc [181, a, b]) : decode code pc = .ok (.putfield (a.toNat * 256 + b.toNat), 3) := dk_of ((dk_bind (dk_u1 (h 0 _ rfl))).trans ((dk_bind (dk_u2 (h 1 _ rfl) (h 2 _ rfl))).trans rfl))
theorem dk_182 {code : ByteArray} {pc : Nat} (a b : UInt8) (h : DkAt code pc [182, a, b]) : decode code pc = .ok (.invokevirtual (a.toNat * 256 + b.toNat), 3) := dk_of ((dk_bind (dk_u1 (h 0 _ rfl))).trans ((dk_bind (dk_u2 (h 1 _ rfl) (h 2 _ rfl))).trans rfl))
theorem dk_183 {code : ByteArray} {pc : Nat} (a b : UInt8) (h : DkAt code pc [183, a, b]) : decode code pc = .ok (.invokespecial (a.toNat * 256 + b.toNat), 3) := dk_of ((dk_bind (dk_u1 (h 0 _ rfl))).trans ((dk_bind (dk_u2 (h 1 _ rfl) (h 2 _ rfl))).trans rfl))
theorem dk_184 {code : ByteArray} {pc : Nat} (a b : UInt8) (h : DkAt code pc [184, a, b]) : decode code pc = .ok (.invokestatic (a.toNat * 256 + b.toNat), 3) := dk_of ((dk_bind (dk_u1 (h 0 _ rfl))).trans ((dk_bind (dk_u2 (h 1 _ rfl) (h 2 _ rfl))).trans rfl))
theorem dk_187 {code : ByteArray} {pc : Nat} (a b : UInt8) (h : DkAt code pc [187, a, b]) : decode code pc = .ok (.new (a.toNat * 256 + b.toNat), 3) := dk_of ((dk_bind (dk_u1 (h 0 _ rfl))).trans ((dk_bind (dk_u2 (h 1 _ rfl) (h 2 _ rfl))).trans rfl))
theorem dk_188_4 {code : ByteArray} {pc : Nat} (h : DkAt code pc [188, 4]) : decode code pc = .ok (.newarray .boolean, 2) := dk_of ((dk_bind (dk_u1 (h 0 _ rfl))).trans ((dk_bind (dk_u1 (h 1 _ rfl))).trans rfl))
theorem dk_188_8 {code : ByteArray} {pc : Nat} (h : DkAt code pc [188, 8]) : decode code pc = .ok (.newarray .byte, 2) := dk_of ((dk_bind (dk_u1 (h 0 _ rfl))).trans ((dk_bind (dk_u1 (h 1 _ rfl))).trans rfl))
theorem dk_188_9 {code : ByteArray} {pc : Nat} (h : DkAt code pc [188, 9]) : decode code pc = .ok (.newarray .short, 2) := dk_of ((dk_bind (dk_u1 (h 0 _ rfl))).trans ((dk_bind (dk_u1 (h 1 _ rfl))).trans rfl))
theorem dk_188_10 {code : ByteArray} {pc : Nat} (h : DkAt code pc [188, 10]) : decode code pc = .ok (.newarray .int, 2) := dk_of ((dk_bind (dk_u1 (h 0 _ rfl))).trans ((dk_bind (dk_u1 (h 1 _ rfl))).trans rfl))
theorem dk_188_11 {code : ByteArray} {pc : Nat} (h : DkAt code pc [188, 11]) : decode code pc = .ok (.newarray .long, 2) := dk_of ((dk_bind (dk_u1 (h 0 _ rfl))).trans ((dk_bind (dk_u1 (h 1 _ rfl))).trans rfl))
theorem dk_189 {code : ByteArray} {pc : Nat} (a b : UInt8) (h : DkAt code pc [189, a, b]) : decode code pc = .ok (.anewarray (a.toNat * 256 + b.toNat), 3) := dk_of ((dk_bind (dk_u1 (h 0 _ rfl))).trans ((dk_bind (dk_u2 (h 1 _ rfl) (h 2 _ rfl))).trans rfl))
theorem dk_190 {code : ByteArray} {pc : Nat} (h : DkAt code pc [190]) : decode code pc = .ok (.arraylength, 1) := dk_of ((dk_bind (dk_u1 (h 0 _ rfl))).trans rfl)
theorem dk_191 {code : ByteArray} {pc : Nat} (h : DkAt code pc [191]) : decode code pc = .ok (.athrow, 1) := dk_of ((dk_bind (dk_u1 (h 0 _ rfl))).trans rfl)
theorem dk_192 {code : ByteArray} {pc : Nat} (a b : UInt8) (h : DkAt code pc [192, a, b]) : decode code pc = .ok (.checkcast (a.toNat * 256 + b.toNat), 3) := dk_of ((dk_bind (dk_u1 (h 0 _ rfl))).trans ((dk_bind (dk_u2 (h 1 _ rfl) (h 2 _ rfl))).trans rfl))
theorem dk_198 {code : ByteArray} {pc : Nat} (a b : UInt8) (h : DkAt code pc [198, a, b]) : decode code pc = .ok (.ifnull (Reader.signed 16 (a.toNat * 256 + b.toNat)), 3) := dk_of ((dk_bind (dk_u1 (h 0 _ rfl))).trans ((dk_bind (dk_map (dk_u2 (h 1 _ rfl) (h 2 _ rfl)))).trans rfl))
theorem dk_199 {code : ByteArray} {pc : Nat} (a b : UInt8) (h : DkAt code pc [199, a, b]) : decode code pc = .ok (.ifnonnull (Reader.signed 16 (a.toNat * 256 + b.toNat)), 3) := dk_of ((dk_bind (dk_u1 (h 0 _ rfl))).trans ((dk_bind (dk_map (dk_u2 (h 1 _ rfl) (h 2 _ rfl)))).trans rfl))
/-! java/util/AbstractCollection -/
set_option maxRecDepth 100000
def RJ0 : String := "java/util/AbstractCollection"
abbrev cJ0_init : ByteArray := prog_42_method_1_code
def yJ0_init : MethodName := ⟨RJ0, "<init>", "()V"⟩
theorem dJ0_init_0 : decode cJ0_init 0 = .ok (.aload_n 0, 1) := by decide +kernel
theorem dJ0_init_1 : decode cJ0_init 1 = .ok (.invokespecial 1, 3) := by decide +kernel
theorem dJ0_init_4 : decode cJ0_init 4 = .ok (.return_, 1) := by decide +kernel
theorem q91 : (Jvm.Cond.initialized "java/util/AbstractCollection") ∈ lw_all := lw_g (lw_at lw_m1 4 rfl) rfl
theorem q218 : (Jvm.Cond.instanceMethod ({ cls := "java/util/AbstractCollection", name := "<init>", desc := "()V" } : Jvm.MethodName)) ∈ lw_all := lw_g (lw_at lw_m1 131 rfl) rfl
theorem q219 : (Jvm.Cond.code ({ cls := "java/util/AbstractCollection", name := "<init>", desc := "()V" } : Jvm.MethodName) prog_42_method_1_code (1 : Nat) (Option.none : Option Jvm.ClassFile.FieldType)) ∈ lw_all := lw_g (lw_at lw_m1 132 rfl) rfl
theorem q220 : (Jvm.Cond.methodLink "java/util/AbstractCollection" (1 : Nat) ({ cls := "java/lang/Object", name := "<init>", desc := "()V" } : Jvm.MethodName)) ∈ lw_all := lw_g (lw_at lw_m1 133 rfl) rfl
/-! java/util/AbstractQueue -/
set_option maxRecDepth 100000
def RJ1 : String := "java/util/AbstractQueue"
abbrev cJ1_init : ByteArray := prog_43_method_1_code
def yJ1_init : MethodName := ⟨RJ1, "<init>", "()V"⟩
theorem dJ1_init_0 : decode cJ1_init 0 = .ok (.aload_n 0, 1) := by decide +kernel
theorem dJ1_init_1 : decode cJ1_init 1 = .ok (.invokespecial 1, 3) := by decide +kernel
theorem dJ1_init_4 : decode cJ1_init 4 = .ok (.return_, 1) := by decide +kernel
theorem q92 : (Jvm.Cond.initialized "java/util/AbstractQueue") ∈ lw_all := lw_g (lw_at lw_m1 5 rfl) rfl
theorem q215 : (Jvm.Cond.instanceMethod ({ cls := "java/util/AbstractQueue", name := "<init>", desc := "()V" } : Jvm.MethodName)) ∈ lw_all := lw_g (lw_at lw_m1 128 rfl) rfl
theorem q216 : (Jvm.Cond.code ({ cls := "java/util/AbstractQueue", name := "<init>", desc := "()V" } : Jvm.MethodName) prog_43_method_1_code (1 : Nat) (Option.none : Option Jvm.ClassFile.FieldType)) ∈ lw_all := lw_g (lw_at lw_m1 129 rfl) rfl
theorem q217 : (Jvm.Cond.methodLink "java/util/AbstractQueue" (1 : Nat) ({ cls := "java/util/AbstractCollection", name := "<init>", desc := "()V" } : Jvm.MethodName)) ∈ lw_all := lw_g (lw_at lw_m1 130 rfl) rfl
/-! java/util/PriorityQueue -/
set_option maxRecDepth 100000
def RJ2 : String := "java/util/PriorityQueue"
def TJ2 : u_T := fun k => match k with
  | 0 => ("java/util/PriorityQueue", "queue", "[Ljava/lang/Object;", false)
  | 1 => ("java/util/PriorityQueue", "size", "I", false)
  | 2 => ("java/util/PriorityQueue", "comparator", "Ljava/util/Comparator;", true)
  | _ => ("java/util/PriorityQueue", "modCount", "I", false)
def tyJ2 : Nat → FieldType := fun k => match k with
  | 0 => .array (.object "java/lang/Object")
  | 1 => .int
  | 2 => .object "java/util/Comparator"
  | _ => .int
abbrev wsJ20 : List Cond := u_ws RJ2 TJ2 4
theorem nmJ2 : ∀ a, a < 4 → ∀ b, b < 4 → a ≠ b → (TJ2 a).2.1 ≠ (TJ2 b).2.1 := by decide +kernel
theorem tyJ2_ok : ∀ k, k < 4 → parseFieldDescriptor (TJ2 k).2.2.1 = some (tyJ2 k) := by decide +kernel
abbrev cJ2_init : ByteArray := prog_47_method_4_code
def yJ2_init : MethodName := ⟨RJ2, "<init>", "(ILjava/util/Comparator;)V"⟩
def dkwJ2_init_1 : List UInt8 := [181, 0, 17, 42, 44, 181, 0, 21, 177]
abbrev dktJ2_init_1 : List UInt8 := dkwJ2_init_1 ++ []
def dkwJ2_init_0 : List UInt8 := [42, 183, 0, 7, 27, 4, 162, 0, 11, 187, 0, 12, 89, 183, 0, 14, 191, 42, 27, 189, 0, 15]
abbrev dktJ2_init_0 : List UInt8 := dkwJ2_init_0 ++ dktJ2_init_1
theorem dksJ2_init_0 : cJ2_init.data.toList.drop 0 = dktJ2_init_0 := by decide +kernel
theorem dksJ2_init_1 : cJ2_init.data.toList.drop 22 = dktJ2_init_1 := dk_seg dksJ2_init_0 22 rfl rfl
theorem dJ2_init_0 : decode cJ2_init 0 = .ok (.aload_n 0, 1) := dk_42 (dk_at dksJ2_init_0 0 rfl rfl)
theorem dJ2_init_1 : decode cJ2_init 1 = .ok (.invokespecial 7, 3) := dk_183 0 7 (dk_at dksJ2_init_0 1 rfl rfl)
theorem dJ2_init_4 : decode cJ2_init 4 = .ok (.iload_n 1, 1) := dk_27 (dk_at dksJ2_init_0 4 rfl rfl)
theorem dJ2_init_5 : decode cJ2_init 5 = .ok (.iconst 1, 1) := dk_4 (dk_at dksJ2_init_0 5 rfl rfl)
theorem dJ2_init_6 : decode cJ2_init 6 = .ok (.if_icmp .ge 11, 3) := dk_162 0 11 (dk_at dksJ2_init_0 6 rfl rfl)
theorem dJ2_init_9 : decode cJ2_init 9 = .ok (.new 12, 3) := dk_187 0 12 (dk_at dksJ2_init_0 9 rfl rfl)
theorem dJ2_init_12 : decode cJ2_init 12 = .ok (.dup, 1) := dk_89 (dk_at dksJ2_init_0 12 rfl rfl)
theorem dJ2_init_13 : decode cJ2_init 13 = .ok (.invokespecial 14, 3) := dk_183 0 14 (dk_at dksJ2_init_0 13 rfl rfl)
theorem dJ2_init_16 : decode cJ2_init 16 = .ok (.athrow, 1) := dk_191 (dk_at dksJ2_init_0 16 rfl rfl)
theorem dJ2_init_17 : decode cJ2_init 17 = .ok (.aload_n 0, 1) := dk_42 (dk_at dksJ2_init_0 17 rfl rfl)
theorem dJ2_init_18 : decode cJ2_init 18 = .ok (.iload_n 1, 1) := dk_27 (dk_at dksJ2_init_0 18 rfl rfl)
theorem dJ2_init_19 : decode cJ2_init 19 = .ok (.anewarray 15, 3) := dk_189 0 15 (dk_at dksJ2_init_0 19 rfl rfl)
theorem dJ2_init_22 : decode cJ2_init 22 = .ok (.putfield 17, 3) := dk_181 0 17 (dk_at dksJ2_init_1 0 rfl rfl)
theorem dJ2_init_25 : decode cJ2_init 25 = .ok (.aload_n 0, 1) := dk_42 (dk_at dksJ2_init_1 3 rfl rfl)
theorem dJ2_init_26 : decode cJ2_init 26 = .ok (.aload_n 2, 1) := dk_44 (dk_at dksJ2_init_1 4 rfl rfl)
theorem dJ2_init_27 : decode cJ2_init 27 = .ok (.putfield 21, 3) := dk_181 0 21 (dk_at dksJ2_init_1 5 rfl rfl)
theorem dJ2_init_30 : decode cJ2_init 30 = .ok (.return_, 1) := dk_177 (dk_at dksJ2_init_1 8 rfl rfl)
abbrev cJ2_init_2 : ByteArray := prog_47_method_2_code
def yJ2_init_2 : MethodName := ⟨RJ2, "<init>", "(I)V"⟩
def dkwJ2_init_2_0 : List UInt8 := [42, 27, 1, 183, 0, 3, 177]
abbrev dktJ2_init_2_0 : List UInt8 := dkwJ2_init_2_0 ++ []
theorem dksJ2_init_2_0 : cJ2_init_2.data.toList.drop 0 = dktJ2_init_2_0 := by decide +kernel
theorem dJ2_init_2_0 : decode cJ2_init_2 0 = .ok (.aload_n 0, 1) := dk_42 (dk_at dksJ2_init_2_0 0 rfl rfl)
theorem dJ2_init_2_1 : decode cJ2_init_2 1 = .ok (.iload_n 1, 1) := dk_27 (dk_at dksJ2_init_2_0 1 rfl rfl)
theorem dJ2_init_2_2 : decode cJ2_init_2 2 = .ok (.aconst_null, 1) := dk_1 (dk_at dksJ2_init_2_0 2 rfl rfl)
theorem dJ2_init_2_3 : decode cJ2_init_2 3 = .ok (.invokespecial 3, 3) := dk_183 0 3 (dk_at dksJ2_init_2_0 3 rfl rfl)
theorem dJ2_init_2_6 : decode cJ2_init_2 6 = .ok (.return_, 1) := dk_177 (dk_at dksJ2_init_2_0 6 rfl rfl)
abbrev cJ2_add : ByteArray := prog_47_method_13_code
def yJ2_add : MethodName := ⟨RJ2, "add", "(Ljava/lang/Object;)Z"⟩
def dkwJ2_add_0 : List UInt8 := [42, 43, 182, 0, 89, 172]
abbrev dktJ2_add_0 : List UInt8 := dkwJ2_add_0 ++ []
theorem dksJ2_add_0 : cJ2_add.data.toList.drop 0 = dktJ2_add_0 := by decide +kernel
theorem dJ2_add_0 : decode cJ2_add 0 = .ok (.aload_n 0, 1) := dk_42 (dk_at dksJ2_add_0 0 rfl rfl)
theorem dJ2_add_1 : decode cJ2_add 1 = .ok (.aload_n 1, 1) := dk_43 (dk_at dksJ2_add_0 1 rfl rfl)
theorem dJ2_add_2 : decode cJ2_add 2 = .ok (.invokevirtual 89, 3) := dk_182 0 89 (dk_at dksJ2_add_0 2 rfl rfl)
theorem dJ2_add_5 : decode cJ2_add 5 = .ok (.ireturn, 1) := dk_172 (dk_at dksJ2_add_0 5 rfl rfl)
abbrev cJ2_offer : ByteArray := prog_47_method_14_code
def yJ2_offer : MethodName := ⟨RJ2, "offer", "(Ljava/lang/Object;)Z"⟩
def dkwJ2_offer_2 : List UInt8 := [182, 0, 100, 42, 28, 4, 96, 181, 0, 58, 4, 172]
abbrev dktJ2_offer_2 : List UInt8 := dkwJ2_offer_2 ++ []
def dkwJ2_offer_1 : List UInt8 := [180, 0, 58, 61, 28, 42, 180, 0, 17, 190, 161, 0, 10, 42, 28, 4, 96, 182, 0, 96, 42, 28, 43]
abbrev dktJ2_offer_1 : List UInt8 := dkwJ2_offer_1 ++ dktJ2_offer_2
def dkwJ2_offer_0 : List UInt8 := [43, 199, 0, 11, 187, 0, 74, 89, 183, 0, 76, 191, 42, 89, 180, 0, 93, 4, 96, 181, 0, 93, 42]
abbrev dktJ2_offer_0 : List UInt8 := dkwJ2_offer_0 ++ dktJ2_offer_1
theorem dksJ2_offer_0 : cJ2_offer.data.toList.drop 0 = dktJ2_offer_0 := by decide +kernel
theorem dksJ2_offer_1 : cJ2_offer.data.toList.drop 23 = dktJ2_offer_1 := dk_seg dksJ2_offer_0 23 rfl rfl
theorem dksJ2_offer_2 : cJ2_offer.data.toList.drop 46 = dktJ2_offer_2 := dk_seg dksJ2_offer_1 23 rfl rfl
theorem dJ2_offer_0 : decode cJ2_offer 0 = .ok (.aload_n 1, 1) := dk_43 (dk_at dksJ2_offer_0 0 rfl rfl)
theorem dJ2_offer_1 : decode cJ2_offer 1 = .ok (.ifnonnull 11, 3) := dk_199 0 11 (dk_at dksJ2_offer_0 1 rfl rfl)
theorem dJ2_offer_4 : decode cJ2_offer 4 = .ok (.new 74, 3) := dk_187 0 74 (dk_at dksJ2_offer_0 4 rfl rfl)
theorem dJ2_offer_7 : decode cJ2_offer 7 = .ok (.dup, 1) := dk_89 (dk_at dksJ2_offer_0 7 rfl rfl)
theorem dJ2_offer_8 : decode cJ2_offer 8 = .ok (.invokespecial 76, 3) := dk_183 0 76 (dk_at dksJ2_offer_0 8 rfl rfl)
theorem dJ2_offer_11 : decode cJ2_offer 11 = .ok (.athrow, 1) := dk_191 (dk_at dksJ2_offer_0 11 rfl rfl)
theorem dJ2_offer_12 : decode cJ2_offer 12 = .ok (.aload_n 0, 1) := dk_42 (dk_at dksJ2_offer_0 12 rfl rfl)
theorem dJ2_offer_13 : decode cJ2_offer 13 = .ok (.dup, 1) := dk_89 (dk_at dksJ2_offer_0 13 rfl rfl)
theorem dJ2_offer_14 : decode cJ2_offer 14 = .ok (.getfield 93, 3) := dk_180 0 93 (dk_at dksJ2_offer_0 14 rfl rfl)
theorem dJ2_offer_17 : decode cJ2_offer 17 = .ok (.iconst 1, 1) := dk_4 (dk_at dksJ2_offer_0 17 rfl rfl)
theorem dJ2_offer_18 : decode cJ2_offer 18 = .ok (.iadd, 1) := dk_96 (dk_at dksJ2_offer_0 18 rfl rfl)
theorem dJ2_offer_19 : decode cJ2_offer 19 = .ok (.putfield 93, 3) := dk_181 0 93 (dk_at dksJ2_offer_0 19 rfl rfl)
theorem dJ2_offer_22 : decode cJ2_offer 22 = .ok (.aload_n 0, 1) := dk_42 (dk_at dksJ2_offer_0 22 rfl rfl)
theorem dJ2_offer_23 : decode cJ2_offer 23 = .ok (.getfield 58, 3) := dk_180 0 58 (dk_at dksJ2_offer_1 0 rfl rfl)
theorem dJ2_offer_26 : decode cJ2_offer 26 = .ok (.istore_n 2, 1) := dk_61 (dk_at dksJ2_offer_1 3 rfl rfl)
theorem dJ2_offer_27 : decode cJ2_offer 27 = .ok (.iload_n 2, 1) := dk_28 (dk_at dksJ2_offer_1 4 rfl rfl)
theorem dJ2_offer_28 : decode cJ2_offer 28 = .ok (.aload_n 0, 1) := dk_42 (dk_at dksJ2_offer_1 5 rfl rfl)
theorem dJ2_offer_29 : decode cJ2_offer 29 = .ok (.getfield 17, 3) := dk_180 0 17 (dk_at dksJ2_offer_1 6 rfl rfl)
theorem dJ2_offer_32 : decode cJ2_offer 32 = .ok (.arraylength, 1) := dk_190 (dk_at dksJ2_offer_1 9 rfl rfl)
theorem dJ2_offer_33 : decode cJ2_offer 33 = .ok (.if_icmp .lt 10, 3) := dk_161 0 10 (dk_at dksJ2_offer_1 10 rfl rfl)
theorem dJ2_offer_36 : decode cJ2_offer 36 = .ok (.aload_n 0, 1) := dk_42 (dk_at dksJ2_offer_1 13 rfl rfl)
theorem dJ2_offer_37 : decode cJ2_offer 37 = .ok (.iload_n 2, 1) := dk_28 (dk_at dksJ2_offer_1 14 rfl rfl)
theorem dJ2_offer_38 : decode cJ2_offer 38 = .ok (.iconst 1, 1) := dk_4 (dk_at dksJ2_offer_1 15 rfl rfl)
theorem dJ2_offer_39 : decode cJ2_offer 39 = .ok (.iadd, 1) := dk_96 (dk_at dksJ2_offer_1 16 rfl rfl)
theorem dJ2_offer_40 : decode cJ2_offer 40 = .ok (.invokevirtual 96, 3) := dk_182 0 96 (dk_at dksJ2_offer_1 17 rfl rfl)
theorem dJ2_offer_43 : decode cJ2_offer 43 = .ok (.aload_n 0, 1) := dk_42 (dk_at dksJ2_offer_1 20 rfl rfl)
theorem dJ2_offer_44 : decode cJ2_offer 44 = .ok (.iload_n 2, 1) := dk_28 (dk_at dksJ2_offer_1 21 rfl rfl)
theorem dJ2_offer_45 : decode cJ2_offer 45 = .ok (.aload_n 1, 1) := dk_43 (dk_at dksJ2_offer_1 22 rfl rfl)
theorem dJ2_offer_46 : decode cJ2_offer 46 = .ok (.invokevirtual 100, 3) := dk_182 0 100 (dk_at dksJ2_offer_2 0 rfl rfl)
theorem dJ2_offer_49 : decode cJ2_offer 49 = .ok (.aload_n 0, 1) := dk_42 (dk_at dksJ2_offer_2 3 rfl rfl)
theorem dJ2_offer_50 : decode cJ2_offer 50 = .ok (.iload_n 2, 1) := dk_28 (dk_at dksJ2_offer_2 4 rfl rfl)
theorem dJ2_offer_51 : decode cJ2_offer 51 = .ok (.iconst 1, 1) := dk_4 (dk_at dksJ2_offer_2 5 rfl rfl)
theorem dJ2_offer_52 : decode cJ2_offer 52 = .ok (.iadd, 1) := dk_96 (dk_at dksJ2_offer_2 6 rfl rfl)
theorem dJ2_offer_53 : decode cJ2_offer 53 = .ok (.putfield 58, 3) := dk_181 0 58 (dk_at dksJ2_offer_2 7 rfl rfl)
theorem dJ2_offer_56 : decode cJ2_offer 56 = .ok (.iconst 1, 1) := dk_4 (dk_at dksJ2_offer_2 10 rfl rfl)
theorem dJ2_offer_57 : decode cJ2_offer 57 = .ok (.ireturn, 1) := dk_172 (dk_at dksJ2_offer_2 11 rfl rfl)
abbrev cJ2_grow : ByteArray := prog_47_method_12_code
def yJ2_grow : MethodName := ⟨RJ2, "grow", "(I)V"⟩
def dkwJ2_grow_1 : List UInt8 := [122, 184, 0, 80, 62, 42, 42, 180, 0, 17, 29, 184, 0, 86, 181, 0, 17, 177]
abbrev dktJ2_grow_1 : List UInt8 := dkwJ2_grow_1 ++ []
def dkwJ2_grow_0 : List UInt8 := [42, 180, 0, 17, 190, 61, 28, 27, 28, 100, 28, 16, 64, 162, 0, 9, 28, 5, 96, 167, 0, 6, 28, 4]
abbrev dktJ2_grow_0 : List UInt8 := dkwJ2_grow_0 ++ dktJ2_grow_1
theorem dksJ2_grow_0 : cJ2_grow.data.toList.drop 0 = dktJ2_grow_0 := by decide +kernel
theorem dksJ2_grow_1 : cJ2_grow.data.toList.drop 24 = dktJ2_grow_1 := dk_seg dksJ2_grow_0 24 rfl rfl
theorem dJ2_grow_0 : decode cJ2_grow 0 = .ok (.aload_n 0, 1) := dk_42 (dk_at dksJ2_grow_0 0 rfl rfl)
theorem dJ2_grow_1 : decode cJ2_grow 1 = .ok (.getfield 17, 3) := dk_180 0 17 (dk_at dksJ2_grow_0 1 rfl rfl)
theorem dJ2_grow_4 : decode cJ2_grow 4 = .ok (.arraylength, 1) := dk_190 (dk_at dksJ2_grow_0 4 rfl rfl)
theorem dJ2_grow_5 : decode cJ2_grow 5 = .ok (.istore_n 2, 1) := dk_61 (dk_at dksJ2_grow_0 5 rfl rfl)
theorem dJ2_grow_6 : decode cJ2_grow 6 = .ok (.iload_n 2, 1) := dk_28 (dk_at dksJ2_grow_0 6 rfl rfl)
theorem dJ2_grow_7 : decode cJ2_grow 7 = .ok (.iload_n 1, 1) := dk_27 (dk_at dksJ2_grow_0 7 rfl rfl)
theorem dJ2_grow_8 : decode cJ2_grow 8 = .ok (.iload_n 2, 1) := dk_28 (dk_at dksJ2_grow_0 8 rfl rfl)
theorem dJ2_grow_9 : decode cJ2_grow 9 = .ok (.isub, 1) := dk_100 (dk_at dksJ2_grow_0 9 rfl rfl)
theorem dJ2_grow_10 : decode cJ2_grow 10 = .ok (.iload_n 2, 1) := dk_28 (dk_at dksJ2_grow_0 10 rfl rfl)
theorem dJ2_grow_11 : decode cJ2_grow 11 = .ok (.bipush 64, 2) := dk_16 64 (dk_at dksJ2_grow_0 11 rfl rfl)
theorem dJ2_grow_13 : decode cJ2_grow 13 = .ok (.if_icmp .ge 9, 3) := dk_162 0 9 (dk_at dksJ2_grow_0 13 rfl rfl)
theorem dJ2_grow_16 : decode cJ2_grow 16 = .ok (.iload_n 2, 1) := dk_28 (dk_at dksJ2_grow_0 16 rfl rfl)
theorem dJ2_grow_17 : decode cJ2_grow 17 = .ok (.iconst 2, 1) := dk_5 (dk_at dksJ2_grow_0 17 rfl rfl)
theorem dJ2_grow_18 : decode cJ2_grow 18 = .ok (.iadd, 1) := dk_96 (dk_at dksJ2_grow_0 18 rfl rfl)
theorem dJ2_grow_19 : decode cJ2_grow 19 = .ok (.goto 6, 3) := dk_167 0 6 (dk_at dksJ2_grow_0 19 rfl rfl)
theorem dJ2_grow_22 : decode cJ2_grow 22 = .ok (.iload_n 2, 1) := dk_28 (dk_at dksJ2_grow_0 22 rfl rfl)
theorem dJ2_grow_23 : decode cJ2_grow 23 = .ok (.iconst 1, 1) := dk_4 (dk_at dksJ2_grow_0 23 rfl rfl)
theorem dJ2_grow_24 : decode cJ2_grow 24 = .ok (.ishr, 1) := dk_122 (dk_at dksJ2_grow_1 0 rfl rfl)
theorem dJ2_grow_25 : decode cJ2_grow 25 = .ok (.invokestatic 80, 3) := dk_184 0 80 (dk_at dksJ2_grow_1 1 rfl rfl)
theorem dJ2_grow_28 : decode cJ2_grow 28 = .ok (.istore_n 3, 1) := dk_62 (dk_at dksJ2_grow_1 4 rfl rfl)
theorem dJ2_grow_29 : decode cJ2_grow 29 = .ok (.aload_n 0, 1) := dk_42 (dk_at dksJ2_grow_1 5 rfl rfl)
theorem dJ2_grow_30 : decode cJ2_grow 30 = .ok (.aload_n 0, 1) := dk_42 (dk_at dksJ2_grow_1 6 rfl rfl)
theorem dJ2_grow_31 : decode cJ2_grow 31 = .ok (.getfield 17, 3) := dk_180 0 17 (dk_at dksJ2_grow_1 7 rfl rfl)
theorem dJ2_grow_34 : decode cJ2_grow 34 = .ok (.iload_n 3, 1) := dk_29 (dk_at dksJ2_grow_1 10 rfl rfl)
theorem dJ2_grow_35 : decode cJ2_grow 35 = .ok (.invokestatic 86, 3) := dk_184 0 86 (dk_at dksJ2_grow_1 11 rfl rfl)
theorem dJ2_grow_38 : decode cJ2_grow 38 = .ok (.putfield 17, 3) := dk_181 0 17 (dk_at dksJ2_grow_1 14 rfl rfl)
theorem dJ2_grow_41 : decode cJ2_grow 41 = .ok (.return_, 1) := dk_177 (dk_at dksJ2_grow_1 17 rfl rfl)
abbrev cJ2_siftUp : ByteArray := prog_47_method_27_code
def yJ2_siftUp : MethodName := ⟨RJ2, "siftUp", "(ILjava/lang/Object;)V"⟩
def dkwJ2_siftUp_1 : List UInt8 := [44, 42, 180, 0, 17, 184, 0, 140, 177]
abbrev dktJ2_siftUp_1 : List UInt8 := dkwJ2_siftUp_1 ++ []
def dkwJ2_siftUp_0 : List UInt8 := [42, 180, 0, 21, 198, 0, 19, 27, 44, 42, 180, 0, 17, 42, 180, 0, 21, 184, 0, 136, 167, 0, 12, 27]
abbrev dktJ2_siftUp_0 : List UInt8 := dkwJ2_siftUp_0 ++ dktJ2_siftUp_1
theorem dksJ2_siftUp_0 : cJ2_siftUp.data.toList.drop 0 = dktJ2_siftUp_0 := by decide +kernel
theorem dksJ2_siftUp_1 : cJ2_siftUp.data.toList.drop 24 = dktJ2_siftUp_1 := dk_seg dksJ2_siftUp_0 24 rfl rfl
theorem dJ2_siftUp_0 : decode cJ2_siftUp 0 = .ok (.aload_n 0, 1) := dk_42 (dk_at dksJ2_siftUp_0 0 rfl rfl)
theorem dJ2_siftUp_1 : decode cJ2_siftUp 1 = .ok (.getfield 21, 3) := dk_180 0 21 (dk_at dksJ2_siftUp_0 1 rfl rfl)
theorem dJ2_siftUp_4 : decode cJ2_siftUp 4 = .ok (.ifnull 19, 3) := dk_198 0 19 (dk_at dksJ2_siftUp_0 4 rfl rfl)
theorem dJ2_siftUp_7 : decode cJ2_siftUp 7 = .ok (.iload_n 1, 1) := dk_27 (dk_at dksJ2_siftUp_0 7 rfl rfl)
theorem dJ2_siftUp_8 : decode cJ2_siftUp 8 = .ok (.aload_n 2, 1) := dk_44 (dk_at dksJ2_siftUp_0 8 rfl rfl)
theorem dJ2_siftUp_9 : decode cJ2_siftUp 9 = .ok (.aload_n 0, 1) := dk_42 (dk_at dksJ2_siftUp_0 9 rfl rfl)
theorem dJ2_siftUp_10 : decode cJ2_siftUp 10 = .ok (.getfield 17, 3) := dk_180 0 17 (dk_at dksJ2_siftUp_0 10 rfl rfl)
theorem dJ2_siftUp_13 : decode cJ2_siftUp 13 = .ok (.aload_n 0, 1) := dk_42 (dk_at dksJ2_siftUp_0 13 rfl rfl)
theorem dJ2_siftUp_14 : decode cJ2_siftUp 14 = .ok (.getfield 21, 3) := dk_180 0 21 (dk_at dksJ2_siftUp_0 14 rfl rfl)
theorem dJ2_siftUp_17 : decode cJ2_siftUp 17 = .ok (.invokestatic 136, 3) := dk_184 0 136 (dk_at dksJ2_siftUp_0 17 rfl rfl)
theorem dJ2_siftUp_20 : decode cJ2_siftUp 20 = .ok (.goto 12, 3) := dk_167 0 12 (dk_at dksJ2_siftUp_0 20 rfl rfl)
theorem dJ2_siftUp_23 : decode cJ2_siftUp 23 = .ok (.iload_n 1, 1) := dk_27 (dk_at dksJ2_siftUp_0 23 rfl rfl)
theorem dJ2_siftUp_24 : decode cJ2_siftUp 24 = .ok (.aload_n 2, 1) := dk_44 (dk_at dksJ2_siftUp_1 0 rfl rfl)
theorem dJ2_siftUp_25 : decode cJ2_siftUp 25 = .ok (.aload_n 0, 1) := dk_42 (dk_at dksJ2_siftUp_1 1 rfl rfl)
theorem dJ2_siftUp_26 : decode cJ2_siftUp 26 = .ok (.getfield 17, 3) := dk_180 0 17 (dk_at dksJ2_siftUp_1 2 rfl rfl)
theorem dJ2_siftUp_29 : decode cJ2_siftUp 29 = .ok (.invokestatic 140, 3) := dk_184 0 140 (dk_at dksJ2_siftUp_1 5 rfl rfl)
theorem dJ2_siftUp_32 : decode cJ2_siftUp 32 = .ok (.return_, 1) := dk_177 (dk_at dksJ2_siftUp_1 8 rfl rfl)
abbrev cJ2_siftUpUsingComparator : ByteArray := prog_47_method_29_code
def yJ2_siftUpUsingComparator : MethodName := ⟨RJ2, "siftUpUsingComparator", "(ILjava/lang/Object;[Ljava/lang/Object;Ljava/util/Comparator;)V"⟩
def dkwJ2_siftUpUsingComparator_2 : List UInt8 := [43, 83, 177]
abbrev dktJ2_siftUpUsingComparator_2 : List UInt8 := dkwJ2_siftUpUsingComparator_2 ++ []
def dkwJ2_siftUpUsingComparator_1 : List UInt8 := [185, 0, 149, 3, 0, 155, 0, 6, 167, 0, 14, 44, 26, 25, 5, 83, 21, 4, 59, 167, 255, 216, 44, 26]
abbrev dktJ2_siftUpUsingComparator_1 : List UInt8 := dkwJ2_siftUpUsingComparator_1 ++ dktJ2_siftUpUsingComparator_2
def dkwJ2_siftUpUsingComparator_0 : List UInt8 := [26, 158, 0, 42, 26, 4, 100, 4, 124, 54, 4, 44, 21, 4, 50, 58, 5, 45, 43, 25, 5]
abbrev dktJ2_siftUpUsingComparator_0 : List UInt8 := dkwJ2_siftUpUsingComparator_0 ++ dktJ2_siftUpUsingComparator_1
theorem dksJ2_siftUpUsingComparator_0 : cJ2_siftUpUsingComparator.data.toList.drop 0 = dktJ2_siftUpUsingComparator_0 := by decide +kernel
theorem dksJ2_siftUpUsingComparator_1 : cJ2_siftUpUsingComparator.data.toList.drop 21 = dktJ2_siftUpUsingComparator_1 := dk_seg dksJ2_siftUpUsingComparator_0 21 rfl rfl
theorem dksJ2_siftUpUsingComparator_2 : cJ2_siftUpUsingComparator.data.toList.drop 45 = dktJ2_siftUpUsingComparator_2 := dk_seg dksJ2_siftUpUsingComparator_1 24 rfl rfl
theorem dJ2_siftUpUsingComparator_0 : decode cJ2_siftUpUsingComparator 0 = .ok (.iload_n 0, 1) := dk_26 (dk_at dksJ2_siftUpUsingComparator_0 0 rfl rfl)
theorem dJ2_siftUpUsingComparator_1 : decode cJ2_siftUpUsingComparator 1 = .ok (.ifCond .le 42, 3) := dk_158 0 42 (dk_at dksJ2_siftUpUsingComparator_0 1 rfl rfl)
theorem dJ2_siftUpUsingComparator_4 : decode cJ2_siftUpUsingComparator 4 = .ok (.iload_n 0, 1) := dk_26 (dk_at dksJ2_siftUpUsingComparator_0 4 rfl rfl)
theorem dJ2_siftUpUsingComparator_5 : decode cJ2_siftUpUsingComparator 5 = .ok (.iconst 1, 1) := dk_4 (dk_at dksJ2_siftUpUsingComparator_0 5 rfl rfl)
theorem dJ2_siftUpUsingComparator_6 : decode cJ2_siftUpUsingComparator 6 = .ok (.isub, 1) := dk_100 (dk_at dksJ2_siftUpUsingComparator_0 6 rfl rfl)
theorem dJ2_siftUpUsingComparator_7 : decode cJ2_siftUpUsingComparator 7 = .ok (.iconst 1, 1) := dk_4 (dk_at dksJ2_siftUpUsingComparator_0 7 rfl rfl)
theorem dJ2_siftUpUsingComparator_8 : decode cJ2_siftUpUsingComparator 8 = .ok (.iushr, 1) := dk_124 (dk_at dksJ2_siftUpUsingComparator_0 8 rfl rfl)
theorem dJ2_siftUpUsingComparator_9 : decode cJ2_siftUpUsingComparator 9 = .ok (.istore 4, 2) := dk_54 4 (dk_at dksJ2_siftUpUsingComparator_0 9 rfl rfl)
theorem dJ2_siftUpUsingComparator_11 : decode cJ2_siftUpUsingComparator 11 = .ok (.aload_n 2, 1) := dk_44 (dk_at dksJ2_siftUpUsingComparator_0 11 rfl rfl)
theorem dJ2_siftUpUsingComparator_12 : decode cJ2_siftUpUsingComparator 12 = .ok (.iload 4, 2) := dk_21 4 (dk_at dksJ2_siftUpUsingComparator_0 12 rfl rfl)
theorem dJ2_siftUpUsingComparator_14 : decode cJ2_siftUpUsingComparator 14 = .ok (.aaload, 1) := dk_50 (dk_at dksJ2_siftUpUsingComparator_0 14 rfl rfl)
theorem dJ2_siftUpUsingComparator_15 : decode cJ2_siftUpUsingComparator 15 = .ok (.astore 5, 2) := dk_58 5 (dk_at dksJ2_siftUpUsingComparator_0 15 rfl rfl)
theorem dJ2_siftUpUsingComparator_17 : decode cJ2_siftUpUsingComparator 17 = .ok (.aload_n 3, 1) := dk_45 (dk_at dksJ2_siftUpUsingComparator_0 17 rfl rfl)
theorem dJ2_siftUpUsingComparator_18 : decode cJ2_siftUpUsingComparator 18 = .ok (.aload_n 1, 1) := dk_43 (dk_at dksJ2_siftUpUsingComparator_0 18 rfl rfl)
theorem dJ2_siftUpUsingComparator_19 : decode cJ2_siftUpUsingComparator 19 = .ok (.aload 5, 2) := dk_25 5 (dk_at dksJ2_siftUpUsingComparator_0 19 rfl rfl)
theorem dJ2_siftUpUsingComparator_21 : decode cJ2_siftUpUsingComparator 21 = .ok (.invokeinterface 149 3, 5) := by decide +kernel
theorem dJ2_siftUpUsingComparator_26 : decode cJ2_siftUpUsingComparator 26 = .ok (.ifCond .lt 6, 3) := dk_155 0 6 (dk_at dksJ2_siftUpUsingComparator_1 5 rfl rfl)
theorem dJ2_siftUpUsingComparator_29 : decode cJ2_siftUpUsingComparator 29 = .ok (.goto 14, 3) := dk_167 0 14 (dk_at dksJ2_siftUpUsingComparator_1 8 rfl rfl)
theorem dJ2_siftUpUsingComparator_32 : decode cJ2_siftUpUsingComparator 32 = .ok (.aload_n 2, 1) := dk_44 (dk_at dksJ2_siftUpUsingComparator_1 11 rfl rfl)
theorem dJ2_siftUpUsingComparator_33 : decode cJ2_siftUpUsingComparator 33 = .ok (.iload_n 0, 1) := dk_26 (dk_at dksJ2_siftUpUsingComparator_1 12 rfl rfl)
theorem dJ2_siftUpUsingComparator_34 : decode cJ2_siftUpUsingComparator 34 = .ok (.aload 5, 2) := dk_25 5 (dk_at dksJ2_siftUpUsingComparator_1 13 rfl rfl)
theorem dJ2_siftUpUsingComparator_36 : decode cJ2_siftUpUsingComparator 36 = .ok (.aastore, 1) := dk_83 (dk_at dksJ2_siftUpUsingComparator_1 15 rfl rfl)
theorem dJ2_siftUpUsingComparator_37 : decode cJ2_siftUpUsingComparator 37 = .ok (.iload 4, 2) := dk_21 4 (dk_at dksJ2_siftUpUsingComparator_1 16 rfl rfl)
theorem dJ2_siftUpUsingComparator_39 : decode cJ2_siftUpUsingComparator 39 = .ok (.istore_n 0, 1) := dk_59 (dk_at dksJ2_siftUpUsingComparator_1 18 rfl rfl)
theorem dJ2_siftUpUsingComparator_40 : decode cJ2_siftUpUsingComparator 40 = .ok (.goto (-40), 3) := dk_167 255 216 (dk_at dksJ2_siftUpUsingComparator_1 19 rfl rfl)
theorem dJ2_siftUpUsingComparator_43 : decode cJ2_siftUpUsingComparator 43 = .ok (.aload_n 2, 1) := dk_44 (dk_at dksJ2_siftUpUsingComparator_1 22 rfl rfl)
theorem dJ2_siftUpUsingComparator_44 : decode cJ2_siftUpUsingComparator 44 = .ok (.iload_n 0, 1) := dk_26 (dk_at dksJ2_siftUpUsingComparator_1 23 rfl rfl)
theorem dJ2_siftUpUsingComparator_45 : decode cJ2_siftUpUsingComparator 45 = .ok (.aload_n 1, 1) := dk_43 (dk_at dksJ2_siftUpUsingComparator_2 0 rfl rfl)
theorem dJ2_siftUpUsingComparator_46 : decode cJ2_siftUpUsingComparator 46 = .ok (.aastore, 1) := dk_83 (dk_at dksJ2_siftUpUsingComparator_2 1 rfl rfl)
theorem dJ2_siftUpUsingComparator_47 : decode cJ2_siftUpUsingComparator 47 = .ok (.return_, 1) := dk_177 (dk_at dksJ2_siftUpUsingComparator_2 2 rfl rfl)
abbrev cJ2_siftUpComparable : ByteArray := prog_47_method_28_code
def yJ2_siftUpComparable : MethodName := ⟨RJ2, "siftUpComparable", "(ILjava/lang/Object;[Ljava/lang/Object;)V"⟩
def dkwJ2_siftUpComparable_2 : List UInt8 := [44, 26, 45, 83, 177]
abbrev dktJ2_siftUpComparable_2 : List UInt8 := dkwJ2_siftUpComparable_2 ++ []
def dkwJ2_siftUpComparable_1 : List UInt8 := [25, 5, 185, 0, 146, 2, 0, 155, 0, 6, 167, 0, 14, 44, 26, 25, 5, 83, 21, 4, 59, 167, 255, 217]
abbrev dktJ2_siftUpComparable_1 : List UInt8 := dkwJ2_siftUpComparable_1 ++ dktJ2_siftUpComparable_2
def dkwJ2_siftUpComparable_0 : List UInt8 := [43, 192, 0, 144, 78, 26, 158, 0, 41, 26, 4, 100, 4, 124, 54, 4, 44, 21, 4, 50, 58, 5, 45]
abbrev dktJ2_siftUpComparable_0 : List UInt8 := dkwJ2_siftUpComparable_0 ++ dktJ2_siftUpComparable_1
theorem dksJ2_siftUpComparable_0 : cJ2_siftUpComparable.data.toList.drop 0 = dktJ2_siftUpComparable_0 := by decide +kernel
theorem dksJ2_siftUpComparable_1 : cJ2_siftUpComparable.data.toList.drop 23 = dktJ2_siftUpComparable_1 := dk_seg dksJ2_siftUpComparable_0 23 rfl rfl
theorem dksJ2_siftUpComparable_2 : cJ2_siftUpComparable.data.toList.drop 47 = dktJ2_siftUpComparable_2 := dk_seg dksJ2_siftUpComparable_1 24 rfl rfl
theorem dJ2_siftUpComparable_0 : decode cJ2_siftUpComparable 0 = .ok (.aload_n 1, 1) := dk_43 (dk_at dksJ2_siftUpComparable_0 0 rfl rfl)
theorem dJ2_siftUpComparable_1 : decode cJ2_siftUpComparable 1 = .ok (.checkcast 144, 3) := dk_192 0 144 (dk_at dksJ2_siftUpComparable_0 1 rfl rfl)
theorem dJ2_siftUpComparable_4 : decode cJ2_siftUpComparable 4 = .ok (.astore_n 3, 1) := dk_78 (dk_at dksJ2_siftUpComparable_0 4 rfl rfl)
theorem dJ2_siftUpComparable_5 : decode cJ2_siftUpComparable 5 = .ok (.iload_n 0, 1) := dk_26 (dk_at dksJ2_siftUpComparable_0 5 rfl rfl)
theorem dJ2_siftUpComparable_6 : decode cJ2_siftUpComparable 6 = .ok (.ifCond .le 41, 3) := dk_158 0 41 (dk_at dksJ2_siftUpComparable_0 6 rfl rfl)
theorem dJ2_siftUpComparable_9 : decode cJ2_siftUpComparable 9 = .ok (.iload_n 0, 1) := dk_26 (dk_at dksJ2_siftUpComparable_0 9 rfl rfl)
theorem dJ2_siftUpComparable_10 : decode cJ2_siftUpComparable 10 = .ok (.iconst 1, 1) := dk_4 (dk_at dksJ2_siftUpComparable_0 10 rfl rfl)
theorem dJ2_siftUpComparable_11 : decode cJ2_siftUpComparable 11 = .ok (.isub, 1) := dk_100 (dk_at dksJ2_siftUpComparable_0 11 rfl rfl)
theorem dJ2_siftUpComparable_12 : decode cJ2_siftUpComparable 12 = .ok (.iconst 1, 1) := dk_4 (dk_at dksJ2_siftUpComparable_0 12 rfl rfl)
theorem dJ2_siftUpComparable_13 : decode cJ2_siftUpComparable 13 = .ok (.iushr, 1) := dk_124 (dk_at dksJ2_siftUpComparable_0 13 rfl rfl)
theorem dJ2_siftUpComparable_14 : decode cJ2_siftUpComparable 14 = .ok (.istore 4, 2) := dk_54 4 (dk_at dksJ2_siftUpComparable_0 14 rfl rfl)
theorem dJ2_siftUpComparable_16 : decode cJ2_siftUpComparable 16 = .ok (.aload_n 2, 1) := dk_44 (dk_at dksJ2_siftUpComparable_0 16 rfl rfl)
theorem dJ2_siftUpComparable_17 : decode cJ2_siftUpComparable 17 = .ok (.iload 4, 2) := dk_21 4 (dk_at dksJ2_siftUpComparable_0 17 rfl rfl)
theorem dJ2_siftUpComparable_19 : decode cJ2_siftUpComparable 19 = .ok (.aaload, 1) := dk_50 (dk_at dksJ2_siftUpComparable_0 19 rfl rfl)
theorem dJ2_siftUpComparable_20 : decode cJ2_siftUpComparable 20 = .ok (.astore 5, 2) := dk_58 5 (dk_at dksJ2_siftUpComparable_0 20 rfl rfl)
theorem dJ2_siftUpComparable_22 : decode cJ2_siftUpComparable 22 = .ok (.aload_n 3, 1) := dk_45 (dk_at dksJ2_siftUpComparable_0 22 rfl rfl)
theorem dJ2_siftUpComparable_23 : decode cJ2_siftUpComparable 23 = .ok (.aload 5, 2) := dk_25 5 (dk_at dksJ2_siftUpComparable_1 0 rfl rfl)
theorem dJ2_siftUpComparable_25 : decode cJ2_siftUpComparable 25 = .ok (.invokeinterface 146 2, 5) := by decide +kernel
theorem dJ2_siftUpComparable_30 : decode cJ2_siftUpComparable 30 = .ok (.ifCond .lt 6, 3) := dk_155 0 6 (dk_at dksJ2_siftUpComparable_1 7 rfl rfl)
theorem dJ2_siftUpComparable_33 : decode cJ2_siftUpComparable 33 = .ok (.goto 14, 3) := dk_167 0 14 (dk_at dksJ2_siftUpComparable_1 10 rfl rfl)
theorem dJ2_siftUpComparable_36 : decode cJ2_siftUpComparable 36 = .ok (.aload_n 2, 1) := dk_44 (dk_at dksJ2_siftUpComparable_1 13 rfl rfl)
theorem dJ2_siftUpComparable_37 : decode cJ2_siftUpComparable 37 = .ok (.iload_n 0, 1) := dk_26 (dk_at dksJ2_siftUpComparable_1 14 rfl rfl)
theorem dJ2_siftUpComparable_38 : decode cJ2_siftUpComparable 38 = .ok (.aload 5, 2) := dk_25 5 (dk_at dksJ2_siftUpComparable_1 15 rfl rfl)
theorem dJ2_siftUpComparable_40 : decode cJ2_siftUpComparable 40 = .ok (.aastore, 1) := dk_83 (dk_at dksJ2_siftUpComparable_1 17 rfl rfl)
theorem dJ2_siftUpComparable_41 : decode cJ2_siftUpComparable 41 = .ok (.iload 4, 2) := dk_21 4 (dk_at dksJ2_siftUpComparable_1 18 rfl rfl)
theorem dJ2_siftUpComparable_43 : decode cJ2_siftUpComparable 43 = .ok (.istore_n 0, 1) := dk_59 (dk_at dksJ2_siftUpComparable_1 20 rfl rfl)
theorem dJ2_siftUpComparable_44 : decode cJ2_siftUpComparable 44 = .ok (.goto (-39), 3) := dk_167 255 217 (dk_at dksJ2_siftUpComparable_1 21 rfl rfl)
theorem dJ2_siftUpComparable_47 : decode cJ2_siftUpComparable 47 = .ok (.aload_n 2, 1) := dk_44 (dk_at dksJ2_siftUpComparable_2 0 rfl rfl)
theorem dJ2_siftUpComparable_48 : decode cJ2_siftUpComparable 48 = .ok (.iload_n 0, 1) := dk_26 (dk_at dksJ2_siftUpComparable_2 1 rfl rfl)
theorem dJ2_siftUpComparable_49 : decode cJ2_siftUpComparable 49 = .ok (.aload_n 3, 1) := dk_45 (dk_at dksJ2_siftUpComparable_2 2 rfl rfl)
theorem dJ2_siftUpComparable_50 : decode cJ2_siftUpComparable 50 = .ok (.aastore, 1) := dk_83 (dk_at dksJ2_siftUpComparable_2 3 rfl rfl)
theorem dJ2_siftUpComparable_51 : decode cJ2_siftUpComparable 51 = .ok (.return_, 1) := dk_177 (dk_at dksJ2_siftUpComparable_2 4 rfl rfl)
abbrev cJ2_poll : ByteArray := prog_47_method_25_code
def yJ2_poll : MethodName := ⟨RJ2, "poll", "()Ljava/lang/Object;"⟩
def dkwJ2_poll_3 : List UInt8 := [43, 29, 25, 5, 184, 0, 129, 44, 176]
abbrev dktJ2_poll_3 : List UInt8 := dkwJ2_poll_3 ++ []
def dkwJ2_poll_2 : List UInt8 := [42, 180, 0, 21, 89, 58, 5, 199, 0, 14, 3, 25, 4, 43, 29, 184, 0, 125, 167, 0, 13, 3, 25, 4]
abbrev dktJ2_poll_2 : List UInt8 := dkwJ2_poll_2 ++ dktJ2_poll_3
def dkwJ2_poll_1 : List UInt8 := [42, 89, 180, 0, 58, 4, 100, 90, 181, 0, 58, 89, 62, 50, 58, 4, 43, 29, 1, 83, 29, 158, 0, 34]
abbrev dktJ2_poll_1 : List UInt8 := dkwJ2_poll_1 ++ dktJ2_poll_2
def dkwJ2_poll_0 : List UInt8 := [42, 180, 0, 17, 89, 76, 3, 50, 89, 77, 198, 0, 69, 42, 89, 180, 0, 93, 4, 96, 181, 0, 93, 43]
abbrev dktJ2_poll_0 : List UInt8 := dkwJ2_poll_0 ++ dktJ2_poll_1
theorem dksJ2_poll_0 : cJ2_poll.data.toList.drop 0 = dktJ2_poll_0 := by decide +kernel
theorem dksJ2_poll_1 : cJ2_poll.data.toList.drop 24 = dktJ2_poll_1 := dk_seg dksJ2_poll_0 24 rfl rfl
theorem dksJ2_poll_2 : cJ2_poll.data.toList.drop 48 = dktJ2_poll_2 := dk_seg dksJ2_poll_1 24 rfl rfl
theorem dksJ2_poll_3 : cJ2_poll.data.toList.drop 72 = dktJ2_poll_3 := dk_seg dksJ2_poll_2 24 rfl rfl
theorem dJ2_poll_0 : decode cJ2_poll 0 = .ok (.aload_n 0, 1) := dk_42 (dk_at dksJ2_poll_0 0 rfl rfl)
theorem dJ2_poll_1 : decode cJ2_poll 1 = .ok (.getfield 17, 3) := dk_180 0 17 (dk_at dksJ2_poll_0 1 rfl rfl)
theorem dJ2_poll_4 : decode cJ2_poll 4 = .ok (.dup, 1) := dk_89 (dk_at dksJ2_poll_0 4 rfl rfl)
theorem dJ2_poll_5 : decode cJ2_poll 5 = .ok (.astore_n 1, 1) := dk_76 (dk_at dksJ2_poll_0 5 rfl rfl)
theorem dJ2_poll_6 : decode cJ2_poll 6 = .ok (.iconst 0, 1) := dk_3 (dk_at dksJ2_poll_0 6 rfl rfl)
theorem dJ2_poll_7 : decode cJ2_poll 7 = .ok (.aaload, 1) := dk_50 (dk_at dksJ2_poll_0 7 rfl rfl)
theorem dJ2_poll_8 : decode cJ2_poll 8 = .ok (.dup, 1) := dk_89 (dk_at dksJ2_poll_0 8 rfl rfl)
theorem dJ2_poll_9 : decode cJ2_poll 9 = .ok (.astore_n 2, 1) := dk_77 (dk_at dksJ2_poll_0 9 rfl rfl)
theorem dJ2_poll_10 : decode cJ2_poll 10 = .ok (.ifnull 69, 3) := dk_198 0 69 (dk_at dksJ2_poll_0 10 rfl rfl)
theorem dJ2_poll_13 : decode cJ2_poll 13 = .ok (.aload_n 0, 1) := dk_42 (dk_at dksJ2_poll_0 13 rfl rfl)
theorem dJ2_poll_14 : decode cJ2_poll 14 = .ok (.dup, 1) := dk_89 (dk_at dksJ2_poll_0 14 rfl rfl)
theorem dJ2_poll_15 : decode cJ2_poll 15 = .ok (.getfield 93, 3) := dk_180 0 93 (dk_at dksJ2_poll_0 15 rfl rfl)
theorem dJ2_poll_18 : decode cJ2_poll 18 = .ok (.iconst 1, 1) := dk_4 (dk_at dksJ2_poll_0 18 rfl rfl)
theorem dJ2_poll_19 : decode cJ2_poll 19 = .ok (.iadd, 1) := dk_96 (dk_at dksJ2_poll_0 19 rfl rfl)
theorem dJ2_poll_20 : decode cJ2_poll 20 = .ok (.putfield 93, 3) := dk_181 0 93 (dk_at dksJ2_poll_0 20 rfl rfl)
theorem dJ2_poll_23 : decode cJ2_poll 23 = .ok (.aload_n 1, 1) := dk_43 (dk_at dksJ2_poll_0 23 rfl rfl)
theorem dJ2_poll_24 : decode cJ2_poll 24 = .ok (.aload_n 0, 1) := dk_42 (dk_at dksJ2_poll_1 0 rfl rfl)
theorem dJ2_poll_25 : decode cJ2_poll 25 = .ok (.dup, 1) := dk_89 (dk_at dksJ2_poll_1 1 rfl rfl)
theorem dJ2_poll_26 : decode cJ2_poll 26 = .ok (.getfield 58, 3) := dk_180 0 58 (dk_at dksJ2_poll_1 2 rfl rfl)
theorem dJ2_poll_29 : decode cJ2_poll 29 = .ok (.iconst 1, 1) := dk_4 (dk_at dksJ2_poll_1 5 rfl rfl)
theorem dJ2_poll_30 : decode cJ2_poll 30 = .ok (.isub, 1) := dk_100 (dk_at dksJ2_poll_1 6 rfl rfl)
theorem dJ2_poll_31 : decode cJ2_poll 31 = .ok (.dup_x1, 1) := dk_90 (dk_at dksJ2_poll_1 7 rfl rfl)
theorem dJ2_poll_32 : decode cJ2_poll 32 = .ok (.putfield 58, 3) := dk_181 0 58 (dk_at dksJ2_poll_1 8 rfl rfl)
theorem dJ2_poll_35 : decode cJ2_poll 35 = .ok (.dup, 1) := dk_89 (dk_at dksJ2_poll_1 11 rfl rfl)
theorem dJ2_poll_36 : decode cJ2_poll 36 = .ok (.istore_n 3, 1) := dk_62 (dk_at dksJ2_poll_1 12 rfl rfl)
theorem dJ2_poll_37 : decode cJ2_poll 37 = .ok (.aaload, 1) := dk_50 (dk_at dksJ2_poll_1 13 rfl rfl)
theorem dJ2_poll_38 : decode cJ2_poll 38 = .ok (.astore 4, 2) := dk_58 4 (dk_at dksJ2_poll_1 14 rfl rfl)
theorem dJ2_poll_40 : decode cJ2_poll 40 = .ok (.aload_n 1, 1) := dk_43 (dk_at dksJ2_poll_1 16 rfl rfl)
theorem dJ2_poll_41 : decode cJ2_poll 41 = .ok (.iload_n 3, 1) := dk_29 (dk_at dksJ2_poll_1 17 rfl rfl)
theorem dJ2_poll_42 : decode cJ2_poll 42 = .ok (.aconst_null, 1) := dk_1 (dk_at dksJ2_poll_1 18 rfl rfl)
theorem dJ2_poll_43 : decode cJ2_poll 43 = .ok (.aastore, 1) := dk_83 (dk_at dksJ2_poll_1 19 rfl rfl)
theorem dJ2_poll_44 : decode cJ2_poll 44 = .ok (.iload_n 3, 1) := dk_29 (dk_at dksJ2_poll_1 20 rfl rfl)
theorem dJ2_poll_45 : decode cJ2_poll 45 = .ok (.ifCond .le 34, 3) := dk_158 0 34 (dk_at dksJ2_poll_1 21 rfl rfl)
theorem dJ2_poll_48 : decode cJ2_poll 48 = .ok (.aload_n 0, 1) := dk_42 (dk_at dksJ2_poll_2 0 rfl rfl)
theorem dJ2_poll_49 : decode cJ2_poll 49 = .ok (.getfield 21, 3) := dk_180 0 21 (dk_at dksJ2_poll_2 1 rfl rfl)
theorem dJ2_poll_52 : decode cJ2_poll 52 = .ok (.dup, 1) := dk_89 (dk_at dksJ2_poll_2 4 rfl rfl)
theorem dJ2_poll_53 : decode cJ2_poll 53 = .ok (.astore 5, 2) := dk_58 5 (dk_at dksJ2_poll_2 5 rfl rfl)
theorem dJ2_poll_55 : decode cJ2_poll 55 = .ok (.ifnonnull 14, 3) := dk_199 0 14 (dk_at dksJ2_poll_2 7 rfl rfl)
theorem dJ2_poll_58 : decode cJ2_poll 58 = .ok (.iconst 0, 1) := dk_3 (dk_at dksJ2_poll_2 10 rfl rfl)
theorem dJ2_poll_59 : decode cJ2_poll 59 = .ok (.aload 4, 2) := dk_25 4 (dk_at dksJ2_poll_2 11 rfl rfl)
theorem dJ2_poll_61 : decode cJ2_poll 61 = .ok (.aload_n 1, 1) := dk_43 (dk_at dksJ2_poll_2 13 rfl rfl)
theorem dJ2_poll_62 : decode cJ2_poll 62 = .ok (.iload_n 3, 1) := dk_29 (dk_at dksJ2_poll_2 14 rfl rfl)
theorem dJ2_poll_63 : decode cJ2_poll 63 = .ok (.invokestatic 125, 3) := dk_184 0 125 (dk_at dksJ2_poll_2 15 rfl rfl)
theorem dJ2_poll_66 : decode cJ2_poll 66 = .ok (.goto 13, 3) := dk_167 0 13 (dk_at dksJ2_poll_2 18 rfl rfl)
theorem dJ2_poll_69 : decode cJ2_poll 69 = .ok (.iconst 0, 1) := dk_3 (dk_at dksJ2_poll_2 21 rfl rfl)
theorem dJ2_poll_70 : decode cJ2_poll 70 = .ok (.aload 4, 2) := dk_25 4 (dk_at dksJ2_poll_2 22 rfl rfl)
theorem dJ2_poll_72 : decode cJ2_poll 72 = .ok (.aload_n 1, 1) := dk_43 (dk_at dksJ2_poll_3 0 rfl rfl)
theorem dJ2_poll_73 : decode cJ2_poll 73 = .ok (.iload_n 3, 1) := dk_29 (dk_at dksJ2_poll_3 1 rfl rfl)
theorem dJ2_poll_74 : decode cJ2_poll 74 = .ok (.aload 5, 2) := dk_25 5 (dk_at dksJ2_poll_3 2 rfl rfl)
theorem dJ2_poll_76 : decode cJ2_poll 76 = .ok (.invokestatic 129, 3) := dk_184 0 129 (dk_at dksJ2_poll_3 4 rfl rfl)
theorem dJ2_poll_79 : decode cJ2_poll 79 = .ok (.aload_n 2, 1) := dk_44 (dk_at dksJ2_poll_3 7 rfl rfl)
theorem dJ2_poll_80 : decode cJ2_poll 80 = .ok (.areturn, 1) := dk_176 (dk_at dksJ2_poll_3 8 rfl rfl)
abbrev cJ2_siftDownComparable : ByteArray := prog_47_method_31_code
def yJ2_siftDownComparable : MethodName := ⟨RJ2, "siftDownComparable", "(ILjava/lang/Object;[Ljava/lang/Object;I)V"⟩
def dkwJ2_siftDownComparable_4 : List UInt8 := [25, 4, 83, 177]
abbrev dktJ2_siftDownComparable_4 : List UInt8 := dkwJ2_siftDownComparable_4 ++ []
def dkwJ2_siftDownComparable_3 : List UInt8 := [185, 0, 146, 2, 0, 157, 0, 6, 167, 0, 14, 44, 26, 25, 7, 83, 21, 6, 59, 167, 255, 176, 44, 26]
abbrev dktJ2_siftDownComparable_3 : List UInt8 := dkwJ2_siftDownComparable_3 ++ dktJ2_siftDownComparable_4
def dkwJ2_siftDownComparable_2 : List UInt8 := [21, 8, 50, 185, 0, 146, 2, 0, 158, 0, 12, 44, 21, 8, 89, 54, 6, 50, 58, 7, 25, 4, 25, 7]
abbrev dktJ2_siftDownComparable_2 : List UInt8 := dkwJ2_siftDownComparable_2 ++ dktJ2_siftDownComparable_3
def dkwJ2_siftDownComparable_1 : List UInt8 := [44, 21, 6, 50, 58, 7, 21, 6, 4, 96, 54, 8, 21, 8, 29, 162, 0, 29, 25, 7, 192, 0, 144, 44]
abbrev dktJ2_siftDownComparable_1 : List UInt8 := dkwJ2_siftDownComparable_1 ++ dktJ2_siftDownComparable_2
def dkwJ2_siftDownComparable_0 : List UInt8 := [43, 192, 0, 144, 58, 4, 29, 4, 124, 54, 5, 26, 21, 5, 162, 0, 80, 26, 4, 120, 4, 96, 54, 6]
abbrev dktJ2_siftDownComparable_0 : List UInt8 := dkwJ2_siftDownComparable_0 ++ dktJ2_siftDownComparable_1
theorem dksJ2_siftDownComparable_0 : cJ2_siftDownComparable.data.toList.drop 0 = dktJ2_siftDownComparable_0 := by decide +kernel
theorem dksJ2_siftDownComparable_1 : cJ2_siftDownComparable.data.toList.drop 24 = dktJ2_siftDownComparable_1 := dk_seg dksJ2_siftDownComparable_0 24 rfl rfl
theorem dksJ2_siftDownComparable_2 : cJ2_siftDownComparable.data.toList.drop 48 = dktJ2_siftDownComparable_2 := dk_seg dksJ2_siftDownComparable_1 24 rfl rfl
theorem dksJ2_siftDownComparable_3 : cJ2_siftDownComparable.data.toList.drop 72 = dktJ2_siftDownComparable_3 := dk_seg dksJ2_siftDownComparable_2 24 rfl rfl
theorem dksJ2_siftDownComparable_4 : cJ2_siftDownComparable.data.toList.drop 96 = dktJ2_siftDownComparable_4 := dk_seg dksJ2_siftDownComparable_3 24 rfl rfl
theorem dJ2_siftDownComparable_0 : decode cJ2_siftDownComparable 0 = .ok (.aload_n 1, 1) := dk_43 (dk_at dksJ2_siftDownComparable_0 0 rfl rfl)
theorem dJ2_siftDownComparable_1 : decode cJ2_siftDownComparable 1 = .ok (.checkcast 144, 3) := dk_192 0 144 (dk_at dksJ2_siftDownComparable_0 1 rfl rfl)
theorem dJ2_siftDownComparable_4 : decode cJ2_siftDownComparable 4 = .ok (.astore 4, 2) := dk_58 4 (dk_at dksJ2_siftDownComparable_0 4 rfl rfl)
theorem dJ2_siftDownComparable_6 : decode cJ2_siftDownComparable 6 = .ok (.iload_n 3, 1) := dk_29 (dk_at dksJ2_siftDownComparable_0 6 rfl rfl)
theorem dJ2_siftDownComparable_7 : decode cJ2_siftDownComparable 7 = .ok (.iconst 1, 1) := dk_4 (dk_at dksJ2_siftDownComparable_0 7 rfl rfl)
theorem dJ2_siftDownComparable_8 : decode cJ2_siftDownComparable 8 = .ok (.iushr, 1) := dk_124 (dk_at dksJ2_siftDownComparable_0 8 rfl rfl)
theorem dJ2_siftDownComparable_9 : decode cJ2_siftDownComparable 9 = .ok (.istore 5, 2) := dk_54 5 (dk_at dksJ2_siftDownComparable_0 9 rfl rfl)
theorem dJ2_siftDownComparable_11 : decode cJ2_siftDownComparable 11 = .ok (.iload_n 0, 1) := dk_26 (dk_at dksJ2_siftDownComparable_0 11 rfl rfl)
theorem dJ2_siftDownComparable_12 : decode cJ2_siftDownComparable 12 = .ok (.iload 5, 2) := dk_21 5 (dk_at dksJ2_siftDownComparable_0 12 rfl rfl)
theorem dJ2_siftDownComparable_14 : decode cJ2_siftDownComparable 14 = .ok (.if_icmp .ge 80, 3) := dk_162 0 80 (dk_at dksJ2_siftDownComparable_0 14 rfl rfl)
theorem dJ2_siftDownComparable_17 : decode cJ2_siftDownComparable 17 = .ok (.iload_n 0, 1) := dk_26 (dk_at dksJ2_siftDownComparable_0 17 rfl rfl)
theorem dJ2_siftDownComparable_18 : decode cJ2_siftDownComparable 18 = .ok (.iconst 1, 1) := dk_4 (dk_at dksJ2_siftDownComparable_0 18 rfl rfl)
theorem dJ2_siftDownComparable_19 : decode cJ2_siftDownComparable 19 = .ok (.ishl, 1) := dk_120 (dk_at dksJ2_siftDownComparable_0 19 rfl rfl)
theorem dJ2_siftDownComparable_20 : decode cJ2_siftDownComparable 20 = .ok (.iconst 1, 1) := dk_4 (dk_at dksJ2_siftDownComparable_0 20 rfl rfl)
theorem dJ2_siftDownComparable_21 : decode cJ2_siftDownComparable 21 = .ok (.iadd, 1) := dk_96 (dk_at dksJ2_siftDownComparable_0 21 rfl rfl)
theorem dJ2_siftDownComparable_22 : decode cJ2_siftDownComparable 22 = .ok (.istore 6, 2) := dk_54 6 (dk_at dksJ2_siftDownComparable_0 22 rfl rfl)
theorem dJ2_siftDownComparable_24 : decode cJ2_siftDownComparable 24 = .ok (.aload_n 2, 1) := dk_44 (dk_at dksJ2_siftDownComparable_1 0 rfl rfl)
theorem dJ2_siftDownComparable_25 : decode cJ2_siftDownComparable 25 = .ok (.iload 6, 2) := dk_21 6 (dk_at dksJ2_siftDownComparable_1 1 rfl rfl)
theorem dJ2_siftDownComparable_27 : decode cJ2_siftDownComparable 27 = .ok (.aaload, 1) := dk_50 (dk_at dksJ2_siftDownComparable_1 3 rfl rfl)
theorem dJ2_siftDownComparable_28 : decode cJ2_siftDownComparable 28 = .ok (.astore 7, 2) := dk_58 7 (dk_at dksJ2_siftDownComparable_1 4 rfl rfl)
theorem dJ2_siftDownComparable_30 : decode cJ2_siftDownComparable 30 = .ok (.iload 6, 2) := dk_21 6 (dk_at dksJ2_siftDownComparable_1 6 rfl rfl)
theorem dJ2_siftDownComparable_32 : decode cJ2_siftDownComparable 32 = .ok (.iconst 1, 1) := dk_4 (dk_at dksJ2_siftDownComparable_1 8 rfl rfl)
theorem dJ2_siftDownComparable_33 : decode cJ2_siftDownComparable 33 = .ok (.iadd, 1) := dk_96 (dk_at dksJ2_siftDownComparable_1 9 rfl rfl)
theorem dJ2_siftDownComparable_34 : decode cJ2_siftDownComparable 34 = .ok (.istore 8, 2) := dk_54 8 (dk_at dksJ2_siftDownComparable_1 10 rfl rfl)
theorem dJ2_siftDownComparable_36 : decode cJ2_siftDownComparable 36 = .ok (.iload 8, 2) := dk_21 8 (dk_at dksJ2_siftDownComparable_1 12 rfl rfl)
theorem dJ2_siftDownComparable_38 : decode cJ2_siftDownComparable 38 = .ok (.iload_n 3, 1) := dk_29 (dk_at dksJ2_siftDownComparable_1 14 rfl rfl)
theorem dJ2_siftDownComparable_39 : decode cJ2_siftDownComparable 39 = .ok (.if_icmp .ge 29, 3) := dk_162 0 29 (dk_at dksJ2_siftDownComparable_1 15 rfl rfl)
theorem dJ2_siftDownComparable_42 : decode cJ2_siftDownComparable 42 = .ok (.aload 7, 2) := dk_25 7 (dk_at dksJ2_siftDownComparable_1 18 rfl rfl)
theorem dJ2_siftDownComparable_44 : decode cJ2_siftDownComparable 44 = .ok (.checkcast 144, 3) := dk_192 0 144 (dk_at dksJ2_siftDownComparable_1 20 rfl rfl)
theorem dJ2_siftDownComparable_47 : decode cJ2_siftDownComparable 47 = .ok (.aload_n 2, 1) := dk_44 (dk_at dksJ2_siftDownComparable_1 23 rfl rfl)
theorem dJ2_siftDownComparable_48 : decode cJ2_siftDownComparable 48 = .ok (.iload 8, 2) := dk_21 8 (dk_at dksJ2_siftDownComparable_2 0 rfl rfl)
theorem dJ2_siftDownComparable_50 : decode cJ2_siftDownComparable 50 = .ok (.aaload, 1) := dk_50 (dk_at dksJ2_siftDownComparable_2 2 rfl rfl)
theorem dJ2_siftDownComparable_51 : decode cJ2_siftDownComparable 51 = .ok (.invokeinterface 146 2, 5) := by decide +kernel
theorem dJ2_siftDownComparable_56 : decode cJ2_siftDownComparable 56 = .ok (.ifCond .le 12, 3) := dk_158 0 12 (dk_at dksJ2_siftDownComparable_2 8 rfl rfl)
theorem dJ2_siftDownComparable_59 : decode cJ2_siftDownComparable 59 = .ok (.aload_n 2, 1) := dk_44 (dk_at dksJ2_siftDownComparable_2 11 rfl rfl)
theorem dJ2_siftDownComparable_60 : decode cJ2_siftDownComparable 60 = .ok (.iload 8, 2) := dk_21 8 (dk_at dksJ2_siftDownComparable_2 12 rfl rfl)
theorem dJ2_siftDownComparable_62 : decode cJ2_siftDownComparable 62 = .ok (.dup, 1) := dk_89 (dk_at dksJ2_siftDownComparable_2 14 rfl rfl)
theorem dJ2_siftDownComparable_63 : decode cJ2_siftDownComparable 63 = .ok (.istore 6, 2) := dk_54 6 (dk_at dksJ2_siftDownComparable_2 15 rfl rfl)
theorem dJ2_siftDownComparable_65 : decode cJ2_siftDownComparable 65 = .ok (.aaload, 1) := dk_50 (dk_at dksJ2_siftDownComparable_2 17 rfl rfl)
theorem dJ2_siftDownComparable_66 : decode cJ2_siftDownComparable 66 = .ok (.astore 7, 2) := dk_58 7 (dk_at dksJ2_siftDownComparable_2 18 rfl rfl)
theorem dJ2_siftDownComparable_68 : decode cJ2_siftDownComparable 68 = .ok (.aload 4, 2) := dk_25 4 (dk_at dksJ2_siftDownComparable_2 20 rfl rfl)
theorem dJ2_siftDownComparable_70 : decode cJ2_siftDownComparable 70 = .ok (.aload 7, 2) := dk_25 7 (dk_at dksJ2_siftDownComparable_2 22 rfl rfl)
theorem dJ2_siftDownComparable_72 : decode cJ2_siftDownComparable 72 = .ok (.invokeinterface 146 2, 5) := by decide +kernel
theorem dJ2_siftDownComparable_77 : decode cJ2_siftDownComparable 77 = .ok (.ifCond .gt 6, 3) := dk_157 0 6 (dk_at dksJ2_siftDownComparable_3 5 rfl rfl)
theorem dJ2_siftDownComparable_80 : decode cJ2_siftDownComparable 80 = .ok (.goto 14, 3) := dk_167 0 14 (dk_at dksJ2_siftDownComparable_3 8 rfl rfl)
theorem dJ2_siftDownComparable_83 : decode cJ2_siftDownComparable 83 = .ok (.aload_n 2, 1) := dk_44 (dk_at dksJ2_siftDownComparable_3 11 rfl rfl)
theorem dJ2_siftDownComparable_84 : decode cJ2_siftDownComparable 84 = .ok (.iload_n 0, 1) := dk_26 (dk_at dksJ2_siftDownComparable_3 12 rfl rfl)
theorem dJ2_siftDownComparable_85 : decode cJ2_siftDownComparable 85 = .ok (.aload 7, 2) := dk_25 7 (dk_at dksJ2_siftDownComparable_3 13 rfl rfl)
theorem dJ2_siftDownComparable_87 : decode cJ2_siftDownComparable 87 = .ok (.aastore, 1) := dk_83 (dk_at dksJ2_siftDownComparable_3 15 rfl rfl)
theorem dJ2_siftDownComparable_88 : decode cJ2_siftDownComparable 88 = .ok (.iload 6, 2) := dk_21 6 (dk_at dksJ2_siftDownComparable_3 16 rfl rfl)
theorem dJ2_siftDownComparable_90 : decode cJ2_siftDownComparable 90 = .ok (.istore_n 0, 1) := dk_59 (dk_at dksJ2_siftDownComparable_3 18 rfl rfl)
theorem dJ2_siftDownComparable_91 : decode cJ2_siftDownComparable 91 = .ok (.goto (-80), 3) := dk_167 255 176 (dk_at dksJ2_siftDownComparable_3 19 rfl rfl)
theorem dJ2_siftDownComparable_94 : decode cJ2_siftDownComparable 94 = .ok (.aload_n 2, 1) := dk_44 (dk_at dksJ2_siftDownComparable_3 22 rfl rfl)
theorem dJ2_siftDownComparable_95 : decode cJ2_siftDownComparable 95 = .ok (.iload_n 0, 1) := dk_26 (dk_at dksJ2_siftDownComparable_3 23 rfl rfl)
theorem dJ2_siftDownComparable_96 : decode cJ2_siftDownComparable 96 = .ok (.aload 4, 2) := dk_25 4 (dk_at dksJ2_siftDownComparable_4 0 rfl rfl)
theorem dJ2_siftDownComparable_98 : decode cJ2_siftDownComparable 98 = .ok (.aastore, 1) := dk_83 (dk_at dksJ2_siftDownComparable_4 2 rfl rfl)
theorem dJ2_siftDownComparable_99 : decode cJ2_siftDownComparable 99 = .ok (.return_, 1) := dk_177 (dk_at dksJ2_siftDownComparable_4 3 rfl rfl)
abbrev cJ2_siftDownUsingComparator : ByteArray := prog_47_method_32_code
def yJ2_siftDownUsingComparator : MethodName := ⟨RJ2, "siftDownUsingComparator", "(ILjava/lang/Object;[Ljava/lang/Object;ILjava/util/Comparator;)V"⟩
def dkwJ2_siftDownUsingComparator_4 : List UInt8 := [43, 83, 177]
abbrev dktJ2_siftDownUsingComparator_4 : List UInt8 := dkwJ2_siftDownUsingComparator_4 ++ []
def dkwJ2_siftDownUsingComparator_3 : List UInt8 := [185, 0, 149, 3, 0, 157, 0, 6, 167, 0, 14, 44, 26, 25, 7, 83, 21, 6, 59, 167, 255, 176, 44, 26]
abbrev dktJ2_siftDownUsingComparator_3 : List UInt8 := dkwJ2_siftDownUsingComparator_3 ++ dktJ2_siftDownUsingComparator_4
def dkwJ2_siftDownUsingComparator_2 : List UInt8 := [185, 0, 149, 3, 0, 158, 0, 12, 44, 21, 8, 89, 54, 6, 50, 58, 7, 25, 4, 43, 25, 7]
abbrev dktJ2_siftDownUsingComparator_2 : List UInt8 := dkwJ2_siftDownUsingComparator_2 ++ dktJ2_siftDownUsingComparator_3
def dkwJ2_siftDownUsingComparator_1 : List UInt8 := [21, 6, 4, 96, 54, 8, 21, 8, 29, 162, 0, 28, 25, 4, 25, 7, 44, 21, 8, 50]
abbrev dktJ2_siftDownUsingComparator_1 : List UInt8 := dkwJ2_siftDownUsingComparator_1 ++ dktJ2_siftDownUsingComparator_2
def dkwJ2_siftDownUsingComparator_0 : List UInt8 := [29, 4, 124, 54, 5, 26, 21, 5, 162, 0, 80, 26, 4, 120, 4, 96, 54, 6, 44, 21, 6, 50, 58, 7]
abbrev dktJ2_siftDownUsingComparator_0 : List UInt8 := dkwJ2_siftDownUsingComparator_0 ++ dktJ2_siftDownUsingComparator_1
theorem dksJ2_siftDownUsingComparator_0 : cJ2_siftDownUsingComparator.data.toList.drop 0 = dktJ2_siftDownUsingComparator_0 := by decide +kernel
theorem dksJ2_siftDownUsingComparator_1 : cJ2_siftDownUsingComparator.data.toList.drop 24 = dktJ2_siftDownUsingComparator_1 := dk_seg dksJ2_siftDownUsingComparator_0 24 rfl rfl
theorem dksJ2_siftDownUsingComparator_2 : cJ2_siftDownUsingComparator.data.toList.drop 44 = dktJ2_siftDownUsingComparator_2 := dk_seg dksJ2_siftDownUsingComparator_1 20 rfl rfl
theorem dksJ2_siftDownUsingComparator_3 : cJ2_siftDownUsingComparator.data.toList.drop 66 = dktJ2_siftDownUsingComparator_3 := dk_seg dksJ2_siftDownUsingComparator_2 22 rfl rfl
theorem dksJ2_siftDownUsingComparator_4 : cJ2_siftDownUsingComparator.data.toList.drop 90 = dktJ2_siftDownUsingComparator_4 := dk_seg dksJ2_siftDownUsingComparator_3 24 rfl rfl
theorem dJ2_siftDownUsingComparator_0 : decode cJ2_siftDownUsingComparator 0 = .ok (.iload_n 3, 1) := dk_29 (dk_at dksJ2_siftDownUsingComparator_0 0 rfl rfl)
theorem dJ2_siftDownUsingComparator_1 : decode cJ2_siftDownUsingComparator 1 = .ok (.iconst 1, 1) := dk_4 (dk_at dksJ2_siftDownUsingComparator_0 1 rfl rfl)
theorem dJ2_siftDownUsingComparator_2 : decode cJ2_siftDownUsingComparator 2 = .ok (.iushr, 1) := dk_124 (dk_at dksJ2_siftDownUsingComparator_0 2 rfl rfl)
theorem dJ2_siftDownUsingComparator_3 : decode cJ2_siftDownUsingComparator 3 = .ok (.istore 5, 2) := dk_54 5 (dk_at dksJ2_siftDownUsingComparator_0 3 rfl rfl)
theorem dJ2_siftDownUsingComparator_5 : decode cJ2_siftDownUsingComparator 5 = .ok (.iload_n 0, 1) := dk_26 (dk_at dksJ2_siftDownUsingComparator_0 5 rfl rfl)
theorem dJ2_siftDownUsingComparator_6 : decode cJ2_siftDownUsingComparator 6 = .ok (.iload 5, 2) := dk_21 5 (dk_at dksJ2_siftDownUsingComparator_0 6 rfl rfl)
theorem dJ2_siftDownUsingComparator_8 : decode cJ2_siftDownUsingComparator 8 = .ok (.if_icmp .ge 80, 3) := dk_162 0 80 (dk_at dksJ2_siftDownUsingComparator_0 8 rfl rfl)
theorem dJ2_siftDownUsingComparator_11 : decode cJ2_siftDownUsingComparator 11 = .ok (.iload_n 0, 1) := dk_26 (dk_at dksJ2_siftDownUsingComparator_0 11 rfl rfl)
theorem dJ2_siftDownUsingComparator_12 : decode cJ2_siftDownUsingComparator 12 = .ok (.iconst 1, 1) := dk_4 (dk_at dksJ2_siftDownUsingComparator_0 12 rfl rfl)
theorem dJ2_siftDownUsingComparator_13 : decode cJ2_siftDownUsingComparator 13 = .ok (.ishl, 1) := dk_120 (dk_at dksJ2_siftDownUsingComparator_0 13 rfl rfl)
theorem dJ2_siftDownUsingComparator_14 : decode cJ2_siftDownUsingComparator 14 = .ok (.iconst 1, 1) := dk_4 (dk_at dksJ2_siftDownUsingComparator_0 14 rfl rfl)
theorem dJ2_siftDownUsingComparator_15 : decode cJ2_siftDownUsingComparator 15 = .ok (.iadd, 1) := dk_96 (dk_at dksJ2_siftDownUsingComparator_0 15 rfl rfl)
theorem dJ2_siftDownUsingComparator_16 : decode cJ2_siftDownUsingComparator 16 = .ok (.istore 6, 2) := dk_54 6 (dk_at dksJ2_siftDownUsingComparator_0 16 rfl rfl)
theorem dJ2_siftDownUsingComparator_18 : decode cJ2_siftDownUsingComparator 18 = .ok (.aload_n 2, 1) := dk_44 (dk_at dksJ2_siftDownUsingComparator_0 18 rfl rfl)
theorem dJ2_siftDownUsingComparator_19 : decode cJ2_siftDownUsingComparator 19 = .ok (.iload 6, 2) := dk_21 6 (dk_at dksJ2_siftDownUsingComparator_0 19 rfl rfl)
theorem dJ2_siftDownUsingComparator_21 : decode cJ2_siftDownUsingComparator 21 = .ok (.aaload, 1) := dk_50 (dk_at dksJ2_siftDownUsingComparator_0 21 rfl rfl)
theorem dJ2_siftDownUsingComparator_22 : decode cJ2_siftDownUsingComparator 22 = .ok (.astore 7, 2) := dk_58 7 (dk_at dksJ2_siftDownUsingComparator_0 22 rfl rfl)
theorem dJ2_siftDownUsingComparator_24 : decode cJ2_siftDownUsingComparator 24 = .ok (.iload 6, 2) := dk_21 6 (dk_at dksJ2_siftDownUsingComparator_1 0 rfl rfl)
theorem dJ2_siftDownUsingComparator_26 : decode cJ2_siftDownUsingComparator 26 = .ok (.iconst 1, 1) := dk_4 (dk_at dksJ2_siftDownUsingComparator_1 2 rfl rfl)
theorem dJ2_siftDownUsingComparator_27 : decode cJ2_siftDownUsingComparator 27 = .ok (.iadd, 1) := dk_96 (dk_at dksJ2_siftDownUsingComparator_1 3 rfl rfl)
theorem dJ2_siftDownUsingComparator_28 : decode cJ2_siftDownUsingComparator 28 = .ok (.istore 8, 2) := dk_54 8 (dk_at dksJ2_siftDownUsingComparator_1 4 rfl rfl)
theorem dJ2_siftDownUsingComparator_30 : decode cJ2_siftDownUsingComparator 30 = .ok (.iload 8, 2) := dk_21 8 (dk_at dksJ2_siftDownUsingComparator_1 6 rfl rfl)
theorem dJ2_siftDownUsingComparator_32 : decode cJ2_siftDownUsingComparator 32 = .ok (.iload_n 3, 1) := dk_29 (dk_at dksJ2_siftDownUsingComparator_1 8 rfl rfl)
theorem dJ2_siftDownUsingComparator_33 : decode cJ2_siftDownUsingComparator 33 = .ok (.if_icmp .ge 28, 3) := dk_162 0 28 (dk_at dksJ2_siftDownUsingComparator_1 9 rfl rfl)
theorem dJ2_siftDownUsingComparator_36 : decode cJ2_siftDownUsingComparator 36 = .ok (.aload 4, 2) := dk_25 4 (dk_at dksJ2_siftDownUsingComparator_1 12 rfl rfl)
theorem dJ2_siftDownUsingComparator_38 : decode cJ2_siftDownUsingComparator 38 = .ok (.aload 7, 2) := dk_25 7 (dk_at dksJ2_siftDownUsingComparator_1 14 rfl rfl)
theorem dJ2_siftDownUsingComparator_40 : decode cJ2_siftDownUsingComparator 40 = .ok (.aload_n 2, 1) := dk_44 (dk_at dksJ2_siftDownUsingComparator_1 16 rfl rfl)
theorem dJ2_siftDownUsingComparator_41 : decode cJ2_siftDownUsingComparator 41 = .ok (.iload 8, 2) := dk_21 8 (dk_at dksJ2_siftDownUsingComparator_1 17 rfl rfl)
theorem dJ2_siftDownUsingComparator_43 : decode cJ2_siftDownUsingComparator 43 = .ok (.aaload, 1) := dk_50 (dk_at dksJ2_siftDownUsingComparator_1 19 rfl rfl)
theorem dJ2_siftDownUsingComparator_44 : decode cJ2_siftDownUsingComparator 44 = .ok (.invokeinterface 149 3, 5) := by decide +kernel
theorem dJ2_siftDownUsingComparator_49 : decode cJ2_siftDownUsingComparator 49 = .ok (.ifCond .le 12, 3) := dk_158 0 12 (dk_at dksJ2_siftDownUsingComparator_2 5 rfl rfl)
theorem dJ2_siftDownUsingComparator_52 : decode cJ2_siftDownUsingComparator 52 = .ok (.aload_n 2, 1) := dk_44 (dk_at dksJ2_siftDownUsingComparator_2 8 rfl rfl)
theorem dJ2_siftDownUsingComparator_53 : decode cJ2_siftDownUsingComparator 53 = .ok (.iload 8, 2) := dk_21 8 (dk_at dksJ2_siftDownUsingComparator_2 9 rfl rfl)
theorem dJ2_siftDownUsingComparator_55 : decode cJ2_siftDownUsingComparator 55 = .ok (.dup, 1) := dk_89 (dk_at dksJ2_siftDownUsingComparator_2 11 rfl rfl)
theorem dJ2_siftDownUsingComparator_56 : decode cJ2_siftDownUsingComparator 56 = .ok (.istore 6, 2) := dk_54 6 (dk_at dksJ2_siftDownUsingComparator_2 12 rfl rfl)
theorem dJ2_siftDownUsingComparator_58 : decode cJ2_siftDownUsingComparator 58 = .ok (.aaload, 1) := dk_50 (dk_at dksJ2_siftDownUsingComparator_2 14 rfl rfl)
theorem dJ2_siftDownUsingComparator_59 : decode cJ2_siftDownUsingComparator 59 = .ok (.astore 7, 2) := dk_58 7 (dk_at dksJ2_siftDownUsingComparator_2 15 rfl rfl)
theorem dJ2_siftDownUsingComparator_61 : decode cJ2_siftDownUsingComparator 61 = .ok (.aload 4, 2) := dk_25 4 (dk_at dksJ2_siftDownUsingComparator_2 17 rfl rfl)
theorem dJ2_siftDownUsingComparator_63 : decode cJ2_siftDownUsingComparator 63 = .ok (.aload_n 1, 1) := dk_43 (dk_at dksJ2_siftDownUsingComparator_2 19 rfl rfl)
theorem dJ2_siftDownUsingComparator_64 : decode cJ2_siftDownUsingComparator 64 = .ok (.aload 7, 2) := dk_25 7 (dk_at dksJ2_siftDownUsingComparator_2 20 rfl rfl)
theorem dJ2_siftDownUsingComparator_66 : decode cJ2_siftDownUsingComparator 66 = .ok (.invokeinterface 149 3, 5) := by decide +kernel
theorem dJ2_siftDownUsingComparator_71 : decode cJ2_siftDownUsingComparator 71 = .ok (.ifCond .gt 6, 3) := dk_157 0 6 (dk_at dksJ2_siftDownUsingComparator_3 5 rfl rfl)
theorem dJ2_siftDownUsingComparator_74 : decode cJ2_siftDownUsingComparator 74 = .ok (.goto 14, 3) := dk_167 0 14 (dk_at dksJ2_siftDownUsingComparator_3 8 rfl rfl)
theorem dJ2_siftDownUsingComparator_77 : decode cJ2_siftDownUsingComparator 77 = .ok (.aload_n 2, 1) := dk_44 (dk_at dksJ2_siftDownUsingComparator_3 11 rfl rfl)
theorem dJ2_siftDownUsingComparator_78 : decode cJ2_siftDownUsingComparator 78 = .ok (.iload_n 0, 1) := dk_26 (dk_at dksJ2_siftDownUsingComparator_3 12 rfl rfl)
theorem dJ2_siftDownUsingComparator_79 : decode cJ2_siftDownUsingComparator 79 = .ok (.aload 7, 2) := dk_25 7 (dk_at dksJ2_siftDownUsingComparator_3 13 rfl rfl)
theorem dJ2_siftDownUsingComparator_81 : decode cJ2_siftDownUsingComparator 81 = .ok (.aastore, 1) := dk_83 (dk_at dksJ2_siftDownUsingComparator_3 15 rfl rfl)
theorem dJ2_siftDownUsingComparator_82 : decode cJ2_siftDownUsingComparator 82 = .ok (.iload 6, 2) := dk_21 6 (dk_at dksJ2_siftDownUsingComparator_3 16 rfl rfl)
theorem dJ2_siftDownUsingComparator_84 : decode cJ2_siftDownUsingComparator 84 = .ok (.istore_n 0, 1) := dk_59 (dk_at dksJ2_siftDownUsingComparator_3 18 rfl rfl)
theorem dJ2_siftDownUsingComparator_85 : decode cJ2_siftDownUsingComparator 85 = .ok (.goto (-80), 3) := dk_167 255 176 (dk_at dksJ2_siftDownUsingComparator_3 19 rfl rfl)
theorem dJ2_siftDownUsingComparator_88 : decode cJ2_siftDownUsingComparator 88 = .ok (.aload_n 2, 1) := dk_44 (dk_at dksJ2_siftDownUsingComparator_3 22 rfl rfl)
theorem dJ2_siftDownUsingComparator_89 : decode cJ2_siftDownUsingComparator 89 = .ok (.iload_n 0, 1) := dk_26 (dk_at dksJ2_siftDownUsingComparator_3 23 rfl rfl)
theorem dJ2_siftDownUsingComparator_90 : decode cJ2_siftDownUsingComparator 90 = .ok (.aload_n 1, 1) := dk_43 (dk_at dksJ2_siftDownUsingComparator_4 0 rfl rfl)
theorem dJ2_siftDownUsingComparator_91 : decode cJ2_siftDownUsingComparator 91 = .ok (.aastore, 1) := dk_83 (dk_at dksJ2_siftDownUsingComparator_4 1 rfl rfl)
theorem dJ2_siftDownUsingComparator_92 : decode cJ2_siftDownUsingComparator 92 = .ok (.return_, 1) := dk_177 (dk_at dksJ2_siftDownUsingComparator_4 2 rfl rfl)
abbrev cJ2_clear : ByteArray := prog_47_method_24_code
def yJ2_clear : MethodName := ⟨RJ2, "clear", "()V"⟩
def dkwJ2_clear_1 : List UInt8 := [162, 0, 13, 43, 28, 1, 83, 132, 2, 1, 167, 255, 244, 42, 3, 181, 0, 58, 177]
abbrev dktJ2_clear_1 : List UInt8 := dkwJ2_clear_1 ++ []
def dkwJ2_clear_0 : List UInt8 := [42, 89, 180, 0, 93, 4, 96, 181, 0, 93, 42, 180, 0, 17, 76, 3, 61, 42, 180, 0, 58, 62, 28, 29]
abbrev dktJ2_clear_0 : List UInt8 := dkwJ2_clear_0 ++ dktJ2_clear_1
theorem dksJ2_clear_0 : cJ2_clear.data.toList.drop 0 = dktJ2_clear_0 := by decide +kernel
theorem dksJ2_clear_1 : cJ2_clear.data.toList.drop 24 = dktJ2_clear_1 := dk_seg dksJ2_clear_0 24 rfl rfl
theorem dJ2_clear_0 : decode cJ2_clear 0 = .ok (.aload_n 0, 1) := dk_42 (dk_at dksJ2_clear_0 0 rfl rfl)
theorem dJ2_clear_1 : decode cJ2_clear 1 = .ok (.dup, 1) := dk_89 (dk_at dksJ2_clear_0 1 rfl rfl)
theorem dJ2_clear_2 : decode cJ2_clear 2 = .ok (.getfield 93, 3) := dk_180 0 93 (dk_at dksJ2_clear_0 2 rfl rfl)
theorem dJ2_clear_5 : decode cJ2_clear 5 = .ok (.iconst 1, 1) := dk_4 (dk_at dksJ2_clear_0 5 rfl rfl)
theorem dJ2_clear_6 : decode cJ2_clear 6 = .ok (.iadd, 1) := dk_96 (dk_at dksJ2_clear_0 6 rfl rfl)
theorem dJ2_clear_7 : decode cJ2_clear 7 = .ok (.putfield 93, 3) := dk_181 0 93 (dk_at dksJ2_clear_0 7 rfl rfl)
theorem dJ2_clear_10 : decode cJ2_clear 10 = .ok (.aload_n 0, 1) := dk_42 (dk_at dksJ2_clear_0 10 rfl rfl)
theorem dJ2_clear_11 : decode cJ2_clear 11 = .ok (.getfield 17, 3) := dk_180 0 17 (dk_at dksJ2_clear_0 11 rfl rfl)
theorem dJ2_clear_14 : decode cJ2_clear 14 = .ok (.astore_n 1, 1) := dk_76 (dk_at dksJ2_clear_0 14 rfl rfl)
theorem dJ2_clear_15 : decode cJ2_clear 15 = .ok (.iconst 0, 1) := dk_3 (dk_at dksJ2_clear_0 15 rfl rfl)
theorem dJ2_clear_16 : decode cJ2_clear 16 = .ok (.istore_n 2, 1) := dk_61 (dk_at dksJ2_clear_0 16 rfl rfl)
theorem dJ2_clear_17 : decode cJ2_clear 17 = .ok (.aload_n 0, 1) := dk_42 (dk_at dksJ2_clear_0 17 rfl rfl)
theorem dJ2_clear_18 : decode cJ2_clear 18 = .ok (.getfield 58, 3) := dk_180 0 58 (dk_at dksJ2_clear_0 18 rfl rfl)
theorem dJ2_clear_21 : decode cJ2_clear 21 = .ok (.istore_n 3, 1) := dk_62 (dk_at dksJ2_clear_0 21 rfl rfl)
theorem dJ2_clear_22 : decode cJ2_clear 22 = .ok (.iload_n 2, 1) := dk_28 (dk_at dksJ2_clear_0 22 rfl rfl)
theorem dJ2_clear_23 : decode cJ2_clear 23 = .ok (.iload_n 3, 1) := dk_29 (dk_at dksJ2_clear_0 23 rfl rfl)
theorem dJ2_clear_24 : decode cJ2_clear 24 = .ok (.if_icmp .ge 13, 3) := dk_162 0 13 (dk_at dksJ2_clear_1 0 rfl rfl)
theorem dJ2_clear_27 : decode cJ2_clear 27 = .ok (.aload_n 1, 1) := dk_43 (dk_at dksJ2_clear_1 3 rfl rfl)
theorem dJ2_clear_28 : decode cJ2_clear 28 = .ok (.iload_n 2, 1) := dk_28 (dk_at dksJ2_clear_1 4 rfl rfl)
theorem dJ2_clear_29 : decode cJ2_clear 29 = .ok (.aconst_null, 1) := dk_1 (dk_at dksJ2_clear_1 5 rfl rfl)
theorem dJ2_clear_30 : decode cJ2_clear 30 = .ok (.aastore, 1) := dk_83 (dk_at dksJ2_clear_1 6 rfl rfl)
theorem dJ2_clear_31 : decode cJ2_clear 31 = .ok (.iinc 2 1, 3) := dk_132 2 1 (dk_at dksJ2_clear_1 7 rfl rfl)
theorem dJ2_clear_34 : decode cJ2_clear 34 = .ok (.goto (-12), 3) := dk_167 255 244 (dk_at dksJ2_clear_1 10 rfl rfl)
theorem dJ2_clear_37 : decode cJ2_clear 37 = .ok (.aload_n 0, 1) := dk_42 (dk_at dksJ2_clear_1 13 rfl rfl)
theorem dJ2_clear_38 : decode cJ2_clear 38 = .ok (.iconst 0, 1) := dk_3 (dk_at dksJ2_clear_1 14 rfl rfl)
theorem dJ2_clear_39 : decode cJ2_clear 39 = .ok (.putfield 58, 3) := dk_181 0 58 (dk_at dksJ2_clear_1 15 rfl rfl)
theorem dJ2_clear_42 : decode cJ2_clear 42 = .ok (.return_, 1) := dk_177 (dk_at dksJ2_clear_1 18 rfl rfl)
theorem q93 : (Jvm.Cond.initialized "java/util/PriorityQueue") ∈ lw_all := lw_g (lw_at lw_m1 6 rfl) rfl
theorem q202 : (Jvm.Cond.instantiable "java/util/PriorityQueue" (4 : Nat)) ∈ lw_all := lw_g (lw_at lw_m1 115 rfl) rfl
theorem q212 : (Jvm.Cond.instanceMethod ({ cls := "java/util/PriorityQueue", name := "<init>", desc := "(ILjava/util/Comparator;)V" } : Jvm.MethodName)) ∈ lw_all := lw_g (lw_at lw_m1 125 rfl) rfl
theorem q213 : (Jvm.Cond.code ({ cls := "java/util/PriorityQueue", name := "<init>", desc := "(ILjava/util/Comparator;)V" } : Jvm.MethodName) prog_47_method_4_code (3 : Nat) (Option.none : Option Jvm.ClassFile.FieldType)) ∈ lw_all := lw_g (lw_at lw_m1 126 rfl) rfl
theorem q214 : (Jvm.Cond.methodLink "java/util/PriorityQueue" (7 : Nat) ({ cls := "java/util/AbstractQueue", name := "<init>", desc := "()V" } : Jvm.MethodName)) ∈ lw_all := lw_g (lw_at lw_m1 127 rfl) rfl
theorem q221 : (Jvm.Cond.classLink "java/util/PriorityQueue" (15 : Nat) "java/lang/Object") ∈ lw_all := lw_g (lw_at lw_m1 134 rfl) rfl
theorem q223 : (Jvm.Cond.fieldLink "java/util/PriorityQueue" (17 : Nat) "java/util/PriorityQueue" "queue" "[Ljava/lang/Object;") ∈ lw_all := lw_g (lw_at lw_m1 136 rfl) rfl
theorem q224 : (Jvm.Cond.fieldLink "java/util/PriorityQueue" (58 : Nat) "java/util/PriorityQueue" "size" "I") ∈ lw_all := lw_g (lw_at lw_m1 137 rfl) rfl
theorem q225 : (Jvm.Cond.fieldLink "java/util/PriorityQueue" (21 : Nat) "java/util/PriorityQueue" "comparator" "Ljava/util/Comparator;") ∈ lw_all := lw_g (lw_at lw_m1 138 rfl) rfl
theorem q226 : (Jvm.Cond.fieldLink "java/util/PriorityQueue" (93 : Nat) "java/util/PriorityQueue" "modCount" "I") ∈ lw_all := lw_g (lw_at lw_m1 139 rfl) rfl
theorem q227 : (Jvm.Cond.lays "java/util/PriorityQueue" "java/util/PriorityQueue" "queue" "[Ljava/lang/Object;") ∈ lw_all := lw_g (lw_at lw_m1 140 rfl) rfl
theorem q228 : (Jvm.Cond.soleField "java/util/PriorityQueue" "queue") ∈ lw_all := lw_g (lw_at lw_m1 141 rfl) rfl
theorem q229 : (Jvm.Cond.lays "java/util/PriorityQueue" "java/util/PriorityQueue" "size" "I") ∈ lw_all := lw_g (lw_at lw_m1 142 rfl) rfl
theorem q230 : (Jvm.Cond.soleField "java/util/PriorityQueue" "size") ∈ lw_all := lw_g (lw_at lw_m1 143 rfl) rfl
theorem q231 : (Jvm.Cond.laysFinal "java/util/PriorityQueue" "java/util/PriorityQueue" "comparator" "Ljava/util/Comparator;") ∈ lw_all := lw_g (lw_at lw_m1 144 rfl) rfl
theorem q232 : (Jvm.Cond.soleField "java/util/PriorityQueue" "comparator") ∈ lw_all := lw_g (lw_at lw_m1 145 rfl) rfl
theorem q233 : (Jvm.Cond.lays "java/util/PriorityQueue" "java/util/PriorityQueue" "modCount" "I") ∈ lw_all := lw_g (lw_at lw_m1 146 rfl) rfl
theorem q234 : (Jvm.Cond.soleField "java/util/PriorityQueue" "modCount") ∈ lw_all := lw_g (lw_at lw_m1 147 rfl) rfl
theorem q235 : (Jvm.Cond.superclass "java/util/PriorityQueue" "java/util/AbstractQueue") ∈ lw_all := lw_g (lw_at lw_m1 148 rfl) rfl
theorem q248 : (Jvm.Cond.instanceMethod ({ cls := "java/util/PriorityQueue", name := "<init>", desc := "(I)V" } : Jvm.MethodName)) ∈ lw_all := lw_g (lw_at lw_m1 161 rfl) rfl
theorem q249 : (Jvm.Cond.code ({ cls := "java/util/PriorityQueue", name := "<init>", desc := "(I)V" } : Jvm.MethodName) prog_47_method_2_code (2 : Nat) (Option.none : Option Jvm.ClassFile.FieldType)) ∈ lw_all := lw_g (lw_at lw_m1 162 rfl) rfl
theorem q250 : (Jvm.Cond.methodLink "java/util/PriorityQueue" (3 : Nat) ({ cls := "java/util/PriorityQueue", name := "<init>", desc := "(ILjava/util/Comparator;)V" } : Jvm.MethodName)) ∈ lw_all := lw_g (lw_at lw_m1 163 rfl) rfl
theorem q1059 : (Jvm.Cond.instanceMethod ({ cls := "java/util/PriorityQueue", name := "add", desc := "(Ljava/lang/Object;)Z" } : Jvm.MethodName)) ∈ lw_all := lw_g (lw_at lw_m5 12 rfl) rfl
theorem q1060 : (Jvm.Cond.selects "java/util/PriorityQueue" ({ cls := "java/util/PriorityQueue", name := "add", desc := "(Ljava/lang/Object;)Z" } : Jvm.MethodName) ({ cls := "java/util/PriorityQueue", name := "add", desc := "(Ljava/lang/Object;)Z" } : Jvm.MethodName)) ∈ lw_all := lw_g (lw_at lw_m5 13 rfl) rfl
theorem q1061 : (Jvm.Cond.code ({ cls := "java/util/PriorityQueue", name := "add", desc := "(Ljava/lang/Object;)Z" } : Jvm.MethodName) prog_47_method_13_code (2 : Nat) (Option.some Jvm.ClassFile.FieldType.boolean)) ∈ lw_all := lw_g (lw_at lw_m5 14 rfl) rfl
theorem q1062 : (Jvm.Cond.methodLink "java/util/PriorityQueue" (89 : Nat) ({ cls := "java/util/PriorityQueue", name := "offer", desc := "(Ljava/lang/Object;)Z" } : Jvm.MethodName)) ∈ lw_all := lw_g (lw_at lw_m5 15 rfl) rfl
theorem q1063 : (Jvm.Cond.instanceMethod ({ cls := "java/util/PriorityQueue", name := "offer", desc := "(Ljava/lang/Object;)Z" } : Jvm.MethodName)) ∈ lw_all := lw_g (lw_at lw_m5 16 rfl) rfl
theorem q1064 : (Jvm.Cond.selects "java/util/PriorityQueue" ({ cls := "java/util/PriorityQueue", name := "offer", desc := "(Ljava/lang/Object;)Z" } : Jvm.MethodName) ({ cls := "java/util/PriorityQueue", name := "offer", desc := "(Ljava/lang/Object;)Z" } : Jvm.MethodName)) ∈ lw_all := lw_g (lw_at lw_m5 17 rfl) rfl
theorem q1065 : (Jvm.Cond.code ({ cls := "java/util/PriorityQueue", name := "offer", desc := "(Ljava/lang/Object;)Z" } : Jvm.MethodName) prog_47_method_14_code (3 : Nat) (Option.some Jvm.ClassFile.FieldType.boolean)) ∈ lw_all := lw_g (lw_at lw_m5 18 rfl) rfl
theorem q1066 : (Jvm.Cond.classLink "java/util/PriorityQueue" (74 : Nat) "java/lang/NullPointerException") ∈ lw_all := lw_g (lw_at lw_m5 19 rfl) rfl
theorem q1074 : (Jvm.Cond.methodLink "java/util/PriorityQueue" (76 : Nat) ({ cls := "java/lang/NullPointerException", name := "<init>", desc := "()V" } : Jvm.MethodName)) ∈ lw_all := lw_g (lw_at lw_m5 27 rfl) rfl
theorem q1091 : (Jvm.Cond.methodLink "java/util/PriorityQueue" (96 : Nat) ({ cls := "java/util/PriorityQueue", name := "grow", desc := "(I)V" } : Jvm.MethodName)) ∈ lw_all := lw_g (lw_at lw_m5 44 rfl) rfl
theorem q1092 : (Jvm.Cond.privateMethod ({ cls := "java/util/PriorityQueue", name := "grow", desc := "(I)V" } : Jvm.MethodName)) ∈ lw_tbl := lw_at lw_m5 45 rfl
theorem q1093 : (Jvm.Cond.instanceMethod ({ cls := "java/util/PriorityQueue", name := "grow", desc := "(I)V" } : Jvm.MethodName)) ∈ lw_all := lw_g (lw_at lw_m5 46 rfl) rfl
theorem q1094 : (Jvm.Cond.code ({ cls := "java/util/PriorityQueue", name := "grow", desc := "(I)V" } : Jvm.MethodName) prog_47_method_12_code (4 : Nat) (Option.none : Option Jvm.ClassFile.FieldType)) ∈ lw_all := lw_g (lw_at lw_m5 47 rfl) rfl
theorem q1095 : (Jvm.Cond.methodLink "java/util/PriorityQueue" (80 : Nat) ({ cls := "jdk/internal/util/ArraysSupport", name := "newLength", desc := "(III)I" } : Jvm.MethodName)) ∈ lw_all := lw_g (lw_at lw_m5 48 rfl) rfl
theorem q1103 : (Jvm.Cond.methodLink "java/util/PriorityQueue" (86 : Nat) ({ cls := "java/util/Arrays", name := "copyOf", desc := "([Ljava/lang/Object;I)[Ljava/lang/Object;" } : Jvm.MethodName)) ∈ lw_all := lw_g (lw_at lw_m5 56 rfl) rfl
theorem q1135 : (Jvm.Cond.selects "java/util/PriorityQueue" ({ cls := "java/lang/Object", name := "getClass", desc := "()Ljava/lang/Class;" } : Jvm.MethodName) ({ cls := "java/lang/Object", name := "getClass", desc := "()Ljava/lang/Class;" } : Jvm.MethodName)) ∈ lw_all := lw_g (lw_at lw_m5 88 rfl) rfl
theorem q1146 : (Jvm.Cond.methodLink "java/util/PriorityQueue" (100 : Nat) ({ cls := "java/util/PriorityQueue", name := "siftUp", desc := "(ILjava/lang/Object;)V" } : Jvm.MethodName)) ∈ lw_all := lw_g (lw_at lw_m5 99 rfl) rfl
theorem q1147 : (Jvm.Cond.privateMethod ({ cls := "java/util/PriorityQueue", name := "siftUp", desc := "(ILjava/lang/Object;)V" } : Jvm.MethodName)) ∈ lw_tbl := lw_at lw_m5 100 rfl
theorem q1148 : (Jvm.Cond.instanceMethod ({ cls := "java/util/PriorityQueue", name := "siftUp", desc := "(ILjava/lang/Object;)V" } : Jvm.MethodName)) ∈ lw_all := lw_g (lw_at lw_m5 101 rfl) rfl
theorem q1149 : (Jvm.Cond.code ({ cls := "java/util/PriorityQueue", name := "siftUp", desc := "(ILjava/lang/Object;)V" } : Jvm.MethodName) prog_47_method_27_code (3 : Nat) (Option.none : Option Jvm.ClassFile.FieldType)) ∈ lw_all := lw_g (lw_at lw_m5 102 rfl) rfl
theorem q1150 : (Jvm.Cond.methodLink "java/util/PriorityQueue" (136 : Nat) ({ cls := "java/util/PriorityQueue", name := "siftUpUsingComparator", desc := "(ILjava/lang/Object;[Ljava/lang/Object;Ljava/util/Comparator;)V" } : Jvm.MethodName)) ∈ lw_all := lw_g (lw_at lw_m5 103 rfl) rfl
theorem q1151 : (Jvm.Cond.static ({ cls := "java/util/PriorityQueue", name := "siftUpUsingComparator", desc := "(ILjava/lang/Object;[Ljava/lang/Object;Ljava/util/Comparator;)V" } : Jvm.MethodName)) ∈ lw_all := lw_g (lw_at lw_m5 104 rfl) rfl
theorem q1152 : (Jvm.Cond.code ({ cls := "java/util/PriorityQueue", name := "siftUpUsingComparator", desc := "(ILjava/lang/Object;[Ljava/lang/Object;Ljava/util/Comparator;)V" } : Jvm.MethodName) prog_47_method_29_code (6 : Nat) (Option.none : Option Jvm.ClassFile.FieldType)) ∈ lw_all := lw_g (lw_at lw_m5 105 rfl) rfl
theorem q1153 : (Jvm.Cond.interfaceEntry "java/util/PriorityQueue" (149 : Nat)) ∈ lw_tbl := lw_at lw_m5 106 rfl
theorem q1154 : (Jvm.Cond.methodLink "java/util/PriorityQueue" (149 : Nat) ({ cls := "java/util/Comparator", name := "compare", desc := "(Ljava/lang/Object;Ljava/lang/Object;)I" } : Jvm.MethodName)) ∈ lw_all := lw_g (lw_at lw_m5 107 rfl) rfl
theorem q1168 : (Jvm.Cond.methodLink "java/util/PriorityQueue" (140 : Nat) ({ cls := "java/util/PriorityQueue", name := "siftUpComparable", desc := "(ILjava/lang/Object;[Ljava/lang/Object;)V" } : Jvm.MethodName)) ∈ lw_all := lw_g (lw_at lw_m5 121 rfl) rfl
theorem q1169 : (Jvm.Cond.static ({ cls := "java/util/PriorityQueue", name := "siftUpComparable", desc := "(ILjava/lang/Object;[Ljava/lang/Object;)V" } : Jvm.MethodName)) ∈ lw_all := lw_g (lw_at lw_m5 122 rfl) rfl
theorem q1170 : (Jvm.Cond.code ({ cls := "java/util/PriorityQueue", name := "siftUpComparable", desc := "(ILjava/lang/Object;[Ljava/lang/Object;)V" } : Jvm.MethodName) prog_47_method_28_code (6 : Nat) (Option.none : Option Jvm.ClassFile.FieldType)) ∈ lw_all := lw_g (lw_at lw_m5 123 rfl) rfl
theorem q1171 : (Jvm.Cond.classLink "java/util/PriorityQueue" (144 : Nat) "java/lang/Comparable") ∈ lw_all := lw_g (lw_at lw_m5 124 rfl) rfl
theorem q1172 : (Jvm.Cond.interfaceEntry "java/util/PriorityQueue" (146 : Nat)) ∈ lw_tbl := lw_at lw_m5 125 rfl
theorem q1173 : (Jvm.Cond.methodLink "java/util/PriorityQueue" (146 : Nat) ({ cls := "java/lang/Comparable", name := "compareTo", desc := "(Ljava/lang/Object;)I" } : Jvm.MethodName)) ∈ lw_all := lw_g (lw_at lw_m5 126 rfl) rfl
theorem q1223 : (Jvm.Cond.instanceMethod ({ cls := "java/util/PriorityQueue", name := "poll", desc := "()Ljava/lang/Object;" } : Jvm.MethodName)) ∈ lw_all := lw_g (lw_at lw_m5 176 rfl) rfl
theorem q1224 : (Jvm.Cond.selects "java/util/PriorityQueue" ({ cls := "java/util/PriorityQueue", name := "poll", desc := "()Ljava/lang/Object;" } : Jvm.MethodName) ({ cls := "java/util/PriorityQueue", name := "poll", desc := "()Ljava/lang/Object;" } : Jvm.MethodName)) ∈ lw_all := lw_g (lw_at lw_m5 177 rfl) rfl
theorem q1225 : (Jvm.Cond.code ({ cls := "java/util/PriorityQueue", name := "poll", desc := "()Ljava/lang/Object;" } : Jvm.MethodName) prog_47_method_25_code (6 : Nat) (Option.some (Jvm.ClassFile.FieldType.object "java/lang/Object"))) ∈ lw_all := lw_g (lw_at lw_m5 178 rfl) rfl
theorem q1226 : (Jvm.Cond.methodLink "java/util/PriorityQueue" (125 : Nat) ({ cls := "java/util/PriorityQueue", name := "siftDownComparable", desc := "(ILjava/lang/Object;[Ljava/lang/Object;I)V" } : Jvm.MethodName)) ∈ lw_all := lw_g (lw_at lw_m5 179 rfl) rfl
theorem q1227 : (Jvm.Cond.static ({ cls := "java/util/PriorityQueue", name := "siftDownComparable", desc := "(ILjava/lang/Object;[Ljava/lang/Object;I)V" } : Jvm.MethodName)) ∈ lw_all := lw_g (lw_at lw_m5 180 rfl) rfl
theorem q1228 : (Jvm.Cond.code ({ cls := "java/util/PriorityQueue", name := "siftDownComparable", desc := "(ILjava/lang/Object;[Ljava/lang/Object;I)V" } : Jvm.MethodName) prog_47_method_31_code (9 : Nat) (Option.none : Option Jvm.ClassFile.FieldType)) ∈ lw_all := lw_g (lw_at lw_m5 181 rfl) rfl
theorem q1229 : (Jvm.Cond.methodLink "java/util/PriorityQueue" (129 : Nat) ({ cls := "java/util/PriorityQueue", name := "siftDownUsingComparator", desc := "(ILjava/lang/Object;[Ljava/lang/Object;ILjava/util/Comparator;)V" } : Jvm.MethodName)) ∈ lw_all := lw_g (lw_at lw_m5 182 rfl) rfl
theorem q1230 : (Jvm.Cond.static ({ cls := "java/util/PriorityQueue", name := "siftDownUsingComparator", desc := "(ILjava/lang/Object;[Ljava/lang/Object;ILjava/util/Comparator;)V" } : Jvm.MethodName)) ∈ lw_all := lw_g (lw_at lw_m5 183 rfl) rfl
theorem q1231 : (Jvm.Cond.code ({ cls := "java/util/PriorityQueue", name := "siftDownUsingComparator", desc := "(ILjava/lang/Object;[Ljava/lang/Object;ILjava/util/Comparator;)V" } : Jvm.MethodName) prog_47_method_32_code (9 : Nat) (Option.none : Option Jvm.ClassFile.FieldType)) ∈ lw_all := lw_g (lw_at lw_m5 184 rfl) rfl
theorem q1605 : (Jvm.Cond.instanceMethod ({ cls := "java/util/PriorityQueue", name := "clear", desc := "()V" } : Jvm.MethodName)) ∈ lw_all := lw_g (lw_at lw_m7 78 rfl) rfl
theorem q1606 : (Jvm.Cond.selects "java/util/PriorityQueue" ({ cls := "java/util/PriorityQueue", name := "clear", desc := "()V" } : Jvm.MethodName) ({ cls := "java/util/PriorityQueue", name := "clear", desc := "()V" } : Jvm.MethodName)) ∈ lw_all := lw_g (lw_at lw_m7 79 rfl) rfl
theorem q1607 : (Jvm.Cond.code ({ cls := "java/util/PriorityQueue", name := "clear", desc := "()V" } : Jvm.MethodName) prog_47_method_24_code (4 : Nat) (Option.none : Option Jvm.ClassFile.FieldType)) ∈ lw_all := lw_g (lw_at lw_m7 80 rfl) rfl
theorem q2559 : (Jvm.Cond.castable "java/util/PriorityQueue" "java/lang/Object") ∈ lw_tbl := lw_at lw_m11 72 rfl
theorem in_J2 : ∀ w ∈ wsJ20, w ∈ lw_all := lw_in wsJ20 [227, 229, 231, 233] (by decide +kernel) (by decide +kernel)
/-! java/lang/Integer -/
set_option maxRecDepth 100000
def RJ3 : String := "java/lang/Integer"
abbrev cJ3_bitCount : ByteArray := prog_33_method_49_code
def yJ3_bitCount : MethodName := ⟨RJ3, "bitCount", "(I)I"⟩
def dkwJ3_bitCount_2 : List UInt8 := [26, 16, 63, 126, 172]
abbrev dktJ3_bitCount_2 : List UInt8 := dkwJ3_bitCount_2 ++ []
def dkwJ3_bitCount_1 : List UInt8 := [26, 26, 7, 124, 96, 19, 1, 11, 126, 59, 26, 26, 16, 8, 124, 96, 59, 26, 26, 16, 16, 124, 96, 59]
abbrev dktJ3_bitCount_1 : List UInt8 := dkwJ3_bitCount_1 ++ dktJ3_bitCount_2
def dkwJ3_bitCount_0 : List UInt8 := [26, 26, 4, 124, 19, 1, 9, 126, 100, 59, 26, 19, 1, 10, 126, 26, 5, 124, 19, 1, 10, 126, 96, 59]
abbrev dktJ3_bitCount_0 : List UInt8 := dkwJ3_bitCount_0 ++ dktJ3_bitCount_1
theorem dksJ3_bitCount_0 : cJ3_bitCount.data.toList.drop 0 = dktJ3_bitCount_0 := by decide +kernel
theorem dksJ3_bitCount_1 : cJ3_bitCount.data.toList.drop 24 = dktJ3_bitCount_1 := dk_seg dksJ3_bitCount_0 24 rfl rfl
theorem dksJ3_bitCount_2 : cJ3_bitCount.data.toList.drop 48 = dktJ3_bitCount_2 := dk_seg dksJ3_bitCount_1 24 rfl rfl
theorem dJ3_bitCount_0 : decode cJ3_bitCount 0 = .ok (.iload_n 0, 1) := dk_26 (dk_at dksJ3_bitCount_0 0 rfl rfl)
theorem dJ3_bitCount_1 : decode cJ3_bitCount 1 = .ok (.iload_n 0, 1) := dk_26 (dk_at dksJ3_bitCount_0 1 rfl rfl)
theorem dJ3_bitCount_2 : decode cJ3_bitCount 2 = .ok (.iconst 1, 1) := dk_4 (dk_at dksJ3_bitCount_0 2 rfl rfl)
theorem dJ3_bitCount_3 : decode cJ3_bitCount 3 = .ok (.iushr, 1) := dk_124 (dk_at dksJ3_bitCount_0 3 rfl rfl)
theorem dJ3_bitCount_4 : decode cJ3_bitCount 4 = .ok (.ldc_w 265, 3) := dk_19 1 9 (dk_at dksJ3_bitCount_0 4 rfl rfl)
theorem dJ3_bitCount_7 : decode cJ3_bitCount 7 = .ok (.iand, 1) := dk_126 (dk_at dksJ3_bitCount_0 7 rfl rfl)
theorem dJ3_bitCount_8 : decode cJ3_bitCount 8 = .ok (.isub, 1) := dk_100 (dk_at dksJ3_bitCount_0 8 rfl rfl)
theorem dJ3_bitCount_9 : decode cJ3_bitCount 9 = .ok (.istore_n 0, 1) := dk_59 (dk_at dksJ3_bitCount_0 9 rfl rfl)
theorem dJ3_bitCount_10 : decode cJ3_bitCount 10 = .ok (.iload_n 0, 1) := dk_26 (dk_at dksJ3_bitCount_0 10 rfl rfl)
theorem dJ3_bitCount_11 : decode cJ3_bitCount 11 = .ok (.ldc_w 266, 3) := dk_19 1 10 (dk_at dksJ3_bitCount_0 11 rfl rfl)
theorem dJ3_bitCount_14 : decode cJ3_bitCount 14 = .ok (.iand, 1) := dk_126 (dk_at dksJ3_bitCount_0 14 rfl rfl)
theorem dJ3_bitCount_15 : decode cJ3_bitCount 15 = .ok (.iload_n 0, 1) := dk_26 (dk_at dksJ3_bitCount_0 15 rfl rfl)
theorem dJ3_bitCount_16 : decode cJ3_bitCount 16 = .ok (.iconst 2, 1) := dk_5 (dk_at dksJ3_bitCount_0 16 rfl rfl)
theorem dJ3_bitCount_17 : decode cJ3_bitCount 17 = .ok (.iushr, 1) := dk_124 (dk_at dksJ3_bitCount_0 17 rfl rfl)
theorem dJ3_bitCount_18 : decode cJ3_bitCount 18 = .ok (.ldc_w 266, 3) := dk_19 1 10 (dk_at dksJ3_bitCount_0 18 rfl rfl)
theorem dJ3_bitCount_21 : decode cJ3_bitCount 21 = .ok (.iand, 1) := dk_126 (dk_at dksJ3_bitCount_0 21 rfl rfl)
theorem dJ3_bitCount_22 : decode cJ3_bitCount 22 = .ok (.iadd, 1) := dk_96 (dk_at dksJ3_bitCount_0 22 rfl rfl)
theorem dJ3_bitCount_23 : decode cJ3_bitCount 23 = .ok (.istore_n 0, 1) := dk_59 (dk_at dksJ3_bitCount_0 23 rfl rfl)
theorem dJ3_bitCount_24 : decode cJ3_bitCount 24 = .ok (.iload_n 0, 1) := dk_26 (dk_at dksJ3_bitCount_1 0 rfl rfl)
theorem dJ3_bitCount_25 : decode cJ3_bitCount 25 = .ok (.iload_n 0, 1) := dk_26 (dk_at dksJ3_bitCount_1 1 rfl rfl)
theorem dJ3_bitCount_26 : decode cJ3_bitCount 26 = .ok (.iconst 4, 1) := dk_7 (dk_at dksJ3_bitCount_1 2 rfl rfl)
theorem dJ3_bitCount_27 : decode cJ3_bitCount 27 = .ok (.iushr, 1) := dk_124 (dk_at dksJ3_bitCount_1 3 rfl rfl)
theorem dJ3_bitCount_28 : decode cJ3_bitCount 28 = .ok (.iadd, 1) := dk_96 (dk_at dksJ3_bitCount_1 4 rfl rfl)
theorem dJ3_bitCount_29 : decode cJ3_bitCount 29 = .ok (.ldc_w 267, 3) := dk_19 1 11 (dk_at dksJ3_bitCount_1 5 rfl rfl)
theorem dJ3_bitCount_32 : decode cJ3_bitCount 32 = .ok (.iand, 1) := dk_126 (dk_at dksJ3_bitCount_1 8 rfl rfl)
theorem dJ3_bitCount_33 : decode cJ3_bitCount 33 = .ok (.istore_n 0, 1) := dk_59 (dk_at dksJ3_bitCount_1 9 rfl rfl)
theorem dJ3_bitCount_34 : decode cJ3_bitCount 34 = .ok (.iload_n 0, 1) := dk_26 (dk_at dksJ3_bitCount_1 10 rfl rfl)
theorem dJ3_bitCount_35 : decode cJ3_bitCount 35 = .ok (.iload_n 0, 1) := dk_26 (dk_at dksJ3_bitCount_1 11 rfl rfl)
theorem dJ3_bitCount_36 : decode cJ3_bitCount 36 = .ok (.bipush 8, 2) := dk_16 8 (dk_at dksJ3_bitCount_1 12 rfl rfl)
theorem dJ3_bitCount_38 : decode cJ3_bitCount 38 = .ok (.iushr, 1) := dk_124 (dk_at dksJ3_bitCount_1 14 rfl rfl)
theorem dJ3_bitCount_39 : decode cJ3_bitCount 39 = .ok (.iadd, 1) := dk_96 (dk_at dksJ3_bitCount_1 15 rfl rfl)
theorem dJ3_bitCount_40 : decode cJ3_bitCount 40 = .ok (.istore_n 0, 1) := dk_59 (dk_at dksJ3_bitCount_1 16 rfl rfl)
theorem dJ3_bitCount_41 : decode cJ3_bitCount 41 = .ok (.iload_n 0, 1) := dk_26 (dk_at dksJ3_bitCount_1 17 rfl rfl)
theorem dJ3_bitCount_42 : decode cJ3_bitCount 42 = .ok (.iload_n 0, 1) := dk_26 (dk_at dksJ3_bitCount_1 18 rfl rfl)
theorem dJ3_bitCount_43 : decode cJ3_bitCount 43 = .ok (.bipush 16, 2) := dk_16 16 (dk_at dksJ3_bitCount_1 19 rfl rfl)
theorem dJ3_bitCount_45 : decode cJ3_bitCount 45 = .ok (.iushr, 1) := dk_124 (dk_at dksJ3_bitCount_1 21 rfl rfl)
theorem dJ3_bitCount_46 : decode cJ3_bitCount 46 = .ok (.iadd, 1) := dk_96 (dk_at dksJ3_bitCount_1 22 rfl rfl)
theorem dJ3_bitCount_47 : decode cJ3_bitCount 47 = .ok (.istore_n 0, 1) := dk_59 (dk_at dksJ3_bitCount_1 23 rfl rfl)
theorem dJ3_bitCount_48 : decode cJ3_bitCount 48 = .ok (.iload_n 0, 1) := dk_26 (dk_at dksJ3_bitCount_2 0 rfl rfl)
theorem dJ3_bitCount_49 : decode cJ3_bitCount 49 = .ok (.bipush 63, 2) := dk_16 63 (dk_at dksJ3_bitCount_2 1 rfl rfl)
theorem dJ3_bitCount_51 : decode cJ3_bitCount 51 = .ok (.iand, 1) := dk_126 (dk_at dksJ3_bitCount_2 3 rfl rfl)
theorem dJ3_bitCount_52 : decode cJ3_bitCount 52 = .ok (.ireturn, 1) := dk_172 (dk_at dksJ3_bitCount_2 4 rfl rfl)
abbrev cJ3_numberOfTrailingZeros : ByteArray := prog_33_method_48_code
def yJ3_numberOfTrailingZeros : MethodName := ⟨RJ3, "numberOfTrailingZeros", "(I)I"⟩
def dkwJ3_numberOfTrailingZeros_3 : List UInt8 := [5, 124, 59, 27, 26, 4, 124, 96, 172]
abbrev dktJ3_numberOfTrailingZeros_3 : List UInt8 := dkwJ3_numberOfTrailingZeros_3 ++ []
def dkwJ3_numberOfTrailingZeros_2 : List UInt8 := [124, 59, 26, 16, 16, 164, 0, 10, 132, 1, 4, 26, 7, 124, 59, 26, 7, 164, 0, 10, 132, 1, 2, 26]
abbrev dktJ3_numberOfTrailingZeros_2 : List UInt8 := dkwJ3_numberOfTrailingZeros_2 ++ dktJ3_numberOfTrailingZeros_3
def dkwJ3_numberOfTrailingZeros_1 : List UInt8 := [164, 0, 11, 132, 1, 16, 26, 16, 16, 124, 59, 26, 17, 1, 0, 164, 0, 11, 132, 1, 8, 26, 16, 8]
abbrev dktJ3_numberOfTrailingZeros_1 : List UInt8 := dkwJ3_numberOfTrailingZeros_1 ++ dktJ3_numberOfTrailingZeros_2
def dkwJ3_numberOfTrailingZeros_0 : List UInt8 := [26, 2, 130, 26, 4, 100, 126, 59, 26, 157, 0, 8, 26, 16, 32, 126, 172, 4, 60, 26, 19, 1, 8]
abbrev dktJ3_numberOfTrailingZeros_0 : List UInt8 := dkwJ3_numberOfTrailingZeros_0 ++ dktJ3_numberOfTrailingZeros_1
theorem dksJ3_numberOfTrailingZeros_0 : cJ3_numberOfTrailingZeros.data.toList.drop 0 = dktJ3_numberOfTrailingZeros_0 := by decide +kernel
theorem dksJ3_numberOfTrailingZeros_1 : cJ3_numberOfTrailingZeros.data.toList.drop 23 = dktJ3_numberOfTrailingZeros_1 := dk_seg dksJ3_numberOfTrailingZeros_0 23 rfl rfl
theorem dksJ3_numberOfTrailingZeros_2 : cJ3_numberOfTrailingZeros.data.toList.drop 47 = dktJ3_numberOfTrailingZeros_2 := dk_seg dksJ3_numberOfTrailingZeros_1 24 rfl rfl
theorem dksJ3_numberOfTrailingZeros_3 : cJ3_numberOfTrailingZeros.data.toList.drop 71 = dktJ3_numberOfTrailingZeros_3 := dk_seg dksJ3_numberOfTrailingZeros_2 24 rfl rfl
theorem dJ3_numberOfTrailingZeros_0 : decode cJ3_numberOfTrailingZeros 0 = .ok (.iload_n 0, 1) := dk_26 (dk_at dksJ3_numberOfTrailingZeros_0 0 rfl rfl)
theorem dJ3_numberOfTrailingZeros_1 : decode cJ3_numberOfTrailingZeros 1 = .ok (.iconst (-1), 1) := dk_2 (dk_at dksJ3_numberOfTrailingZeros_0 1 rfl rfl)
theorem dJ3_numberOfTrailingZeros_2 : decode cJ3_numberOfTrailingZeros 2 = .ok (.ixor, 1) := dk_130 (dk_at dksJ3_numberOfTrailingZeros_0 2 rfl rfl)
theorem dJ3_numberOfTrailingZeros_3 : decode cJ3_numberOfTrailingZeros 3 = .ok (.iload_n 0, 1) := dk_26 (dk_at dksJ3_numberOfTrailingZeros_0 3 rfl rfl)
theorem dJ3_numberOfTrailingZeros_4 : decode cJ3_numberOfTrailingZeros 4 = .ok (.iconst 1, 1) := dk_4 (dk_at dksJ3_numberOfTrailingZeros_0 4 rfl rfl)
theorem dJ3_numberOfTrailingZeros_5 : decode cJ3_numberOfTrailingZeros 5 = .ok (.isub, 1) := dk_100 (dk_at dksJ3_numberOfTrailingZeros_0 5 rfl rfl)
theorem dJ3_numberOfTrailingZeros_6 : decode cJ3_numberOfTrailingZeros 6 = .ok (.iand, 1) := dk_126 (dk_at dksJ3_numberOfTrailingZeros_0 6 rfl rfl)
theorem dJ3_numberOfTrailingZeros_7 : decode cJ3_numberOfTrailingZeros 7 = .ok (.istore_n 0, 1) := dk_59 (dk_at dksJ3_numberOfTrailingZeros_0 7 rfl rfl)
theorem dJ3_numberOfTrailingZeros_8 : decode cJ3_numberOfTrailingZeros 8 = .ok (.iload_n 0, 1) := dk_26 (dk_at dksJ3_numberOfTrailingZeros_0 8 rfl rfl)
theorem dJ3_numberOfTrailingZeros_9 : decode cJ3_numberOfTrailingZeros 9 = .ok (.ifCond .gt 8, 3) := dk_157 0 8 (dk_at dksJ3_numberOfTrailingZeros_0 9 rfl rfl)
theorem dJ3_numberOfTrailingZeros_12 : decode cJ3_numberOfTrailingZeros 12 = .ok (.iload_n 0, 1) := dk_26 (dk_at dksJ3_numberOfTrailingZeros_0 12 rfl rfl)
theorem dJ3_numberOfTrailingZeros_13 : decode cJ3_numberOfTrailingZeros 13 = .ok (.bipush 32, 2) := dk_16 32 (dk_at dksJ3_numberOfTrailingZeros_0 13 rfl rfl)
theorem dJ3_numberOfTrailingZeros_15 : decode cJ3_numberOfTrailingZeros 15 = .ok (.iand, 1) := dk_126 (dk_at dksJ3_numberOfTrailingZeros_0 15 rfl rfl)
theorem dJ3_numberOfTrailingZeros_16 : decode cJ3_numberOfTrailingZeros 16 = .ok (.ireturn, 1) := dk_172 (dk_at dksJ3_numberOfTrailingZeros_0 16 rfl rfl)
theorem dJ3_numberOfTrailingZeros_17 : decode cJ3_numberOfTrailingZeros 17 = .ok (.iconst 1, 1) := dk_4 (dk_at dksJ3_numberOfTrailingZeros_0 17 rfl rfl)
theorem dJ3_numberOfTrailingZeros_18 : decode cJ3_numberOfTrailingZeros 18 = .ok (.istore_n 1, 1) := dk_60 (dk_at dksJ3_numberOfTrailingZeros_0 18 rfl rfl)
theorem dJ3_numberOfTrailingZeros_19 : decode cJ3_numberOfTrailingZeros 19 = .ok (.iload_n 0, 1) := dk_26 (dk_at dksJ3_numberOfTrailingZeros_0 19 rfl rfl)
theorem dJ3_numberOfTrailingZeros_20 : decode cJ3_numberOfTrailingZeros 20 = .ok (.ldc_w 264, 3) := dk_19 1 8 (dk_at dksJ3_numberOfTrailingZeros_0 20 rfl rfl)
theorem dJ3_numberOfTrailingZeros_23 : decode cJ3_numberOfTrailingZeros 23 = .ok (.if_icmp .le 11, 3) := dk_164 0 11 (dk_at dksJ3_numberOfTrailingZeros_1 0 rfl rfl)
theorem dJ3_numberOfTrailingZeros_26 : decode cJ3_numberOfTrailingZeros 26 = .ok (.iinc 1 16, 3) := dk_132 1 16 (dk_at dksJ3_numberOfTrailingZeros_1 3 rfl rfl)
theorem dJ3_numberOfTrailingZeros_29 : decode cJ3_numberOfTrailingZeros 29 = .ok (.iload_n 0, 1) := dk_26 (dk_at dksJ3_numberOfTrailingZeros_1 6 rfl rfl)
theorem dJ3_numberOfTrailingZeros_30 : decode cJ3_numberOfTrailingZeros 30 = .ok (.bipush 16, 2) := dk_16 16 (dk_at dksJ3_numberOfTrailingZeros_1 7 rfl rfl)
theorem dJ3_numberOfTrailingZeros_32 : decode cJ3_numberOfTrailingZeros 32 = .ok (.iushr, 1) := dk_124 (dk_at dksJ3_numberOfTrailingZeros_1 9 rfl rfl)
theorem dJ3_numberOfTrailingZeros_33 : decode cJ3_numberOfTrailingZeros 33 = .ok (.istore_n 0, 1) := dk_59 (dk_at dksJ3_numberOfTrailingZeros_1 10 rfl rfl)
theorem dJ3_numberOfTrailingZeros_34 : decode cJ3_numberOfTrailingZeros 34 = .ok (.iload_n 0, 1) := dk_26 (dk_at dksJ3_numberOfTrailingZeros_1 11 rfl rfl)
theorem dJ3_numberOfTrailingZeros_35 : decode cJ3_numberOfTrailingZeros 35 = .ok (.sipush 256, 3) := dk_17 1 0 (dk_at dksJ3_numberOfTrailingZeros_1 12 rfl rfl)
theorem dJ3_numberOfTrailingZeros_38 : decode cJ3_numberOfTrailingZeros 38 = .ok (.if_icmp .le 11, 3) := dk_164 0 11 (dk_at dksJ3_numberOfTrailingZeros_1 15 rfl rfl)
theorem dJ3_numberOfTrailingZeros_41 : decode cJ3_numberOfTrailingZeros 41 = .ok (.iinc 1 8, 3) := dk_132 1 8 (dk_at dksJ3_numberOfTrailingZeros_1 18 rfl rfl)
theorem dJ3_numberOfTrailingZeros_44 : decode cJ3_numberOfTrailingZeros 44 = .ok (.iload_n 0, 1) := dk_26 (dk_at dksJ3_numberOfTrailingZeros_1 21 rfl rfl)
theorem dJ3_numberOfTrailingZeros_45 : decode cJ3_numberOfTrailingZeros 45 = .ok (.bipush 8, 2) := dk_16 8 (dk_at dksJ3_numberOfTrailingZeros_1 22 rfl rfl)
theorem dJ3_numberOfTrailingZeros_47 : decode cJ3_numberOfTrailingZeros 47 = .ok (.iushr, 1) := dk_124 (dk_at dksJ3_numberOfTrailingZeros_2 0 rfl rfl)
theorem dJ3_numberOfTrailingZeros_48 : decode cJ3_numberOfTrailingZeros 48 = .ok (.istore_n 0, 1) := dk_59 (dk_at dksJ3_numberOfTrailingZeros_2 1 rfl rfl)
theorem dJ3_numberOfTrailingZeros_49 : decode cJ3_numberOfTrailingZeros 49 = .ok (.iload_n 0, 1) := dk_26 (dk_at dksJ3_numberOfTrailingZeros_2 2 rfl rfl)
theorem dJ3_numberOfTrailingZeros_50 : decode cJ3_numberOfTrailingZeros 50 = .ok (.bipush 16, 2) := dk_16 16 (dk_at dksJ3_numberOfTrailingZeros_2 3 rfl rfl)
theorem dJ3_numberOfTrailingZeros_52 : decode cJ3_numberOfTrailingZeros 52 = .ok (.if_icmp .le 10, 3) := dk_164 0 10 (dk_at dksJ3_numberOfTrailingZeros_2 5 rfl rfl)
theorem dJ3_numberOfTrailingZeros_55 : decode cJ3_numberOfTrailingZeros 55 = .ok (.iinc 1 4, 3) := dk_132 1 4 (dk_at dksJ3_numberOfTrailingZeros_2 8 rfl rfl)
theorem dJ3_numberOfTrailingZeros_58 : decode cJ3_numberOfTrailingZeros 58 = .ok (.iload_n 0, 1) := dk_26 (dk_at dksJ3_numberOfTrailingZeros_2 11 rfl rfl)
theorem dJ3_numberOfTrailingZeros_59 : decode cJ3_numberOfTrailingZeros 59 = .ok (.iconst 4, 1) := dk_7 (dk_at dksJ3_numberOfTrailingZeros_2 12 rfl rfl)
theorem dJ3_numberOfTrailingZeros_60 : decode cJ3_numberOfTrailingZeros 60 = .ok (.iushr, 1) := dk_124 (dk_at dksJ3_numberOfTrailingZeros_2 13 rfl rfl)
theorem dJ3_numberOfTrailingZeros_61 : decode cJ3_numberOfTrailingZeros 61 = .ok (.istore_n 0, 1) := dk_59 (dk_at dksJ3_numberOfTrailingZeros_2 14 rfl rfl)
theorem dJ3_numberOfTrailingZeros_62 : decode cJ3_numberOfTrailingZeros 62 = .ok (.iload_n 0, 1) := dk_26 (dk_at dksJ3_numberOfTrailingZeros_2 15 rfl rfl)
theorem dJ3_numberOfTrailingZeros_63 : decode cJ3_numberOfTrailingZeros 63 = .ok (.iconst 4, 1) := dk_7 (dk_at dksJ3_numberOfTrailingZeros_2 16 rfl rfl)
theorem dJ3_numberOfTrailingZeros_64 : decode cJ3_numberOfTrailingZeros 64 = .ok (.if_icmp .le 10, 3) := dk_164 0 10 (dk_at dksJ3_numberOfTrailingZeros_2 17 rfl rfl)
theorem dJ3_numberOfTrailingZeros_67 : decode cJ3_numberOfTrailingZeros 67 = .ok (.iinc 1 2, 3) := dk_132 1 2 (dk_at dksJ3_numberOfTrailingZeros_2 20 rfl rfl)
theorem dJ3_numberOfTrailingZeros_70 : decode cJ3_numberOfTrailingZeros 70 = .ok (.iload_n 0, 1) := dk_26 (dk_at dksJ3_numberOfTrailingZeros_2 23 rfl rfl)
theorem dJ3_numberOfTrailingZeros_71 : decode cJ3_numberOfTrailingZeros 71 = .ok (.iconst 2, 1) := dk_5 (dk_at dksJ3_numberOfTrailingZeros_3 0 rfl rfl)
theorem dJ3_numberOfTrailingZeros_72 : decode cJ3_numberOfTrailingZeros 72 = .ok (.iushr, 1) := dk_124 (dk_at dksJ3_numberOfTrailingZeros_3 1 rfl rfl)
theorem dJ3_numberOfTrailingZeros_73 : decode cJ3_numberOfTrailingZeros 73 = .ok (.istore_n 0, 1) := dk_59 (dk_at dksJ3_numberOfTrailingZeros_3 2 rfl rfl)
theorem dJ3_numberOfTrailingZeros_74 : decode cJ3_numberOfTrailingZeros 74 = .ok (.iload_n 1, 1) := dk_27 (dk_at dksJ3_numberOfTrailingZeros_3 3 rfl rfl)
theorem dJ3_numberOfTrailingZeros_75 : decode cJ3_numberOfTrailingZeros 75 = .ok (.iload_n 0, 1) := dk_26 (dk_at dksJ3_numberOfTrailingZeros_3 4 rfl rfl)
theorem dJ3_numberOfTrailingZeros_76 : decode cJ3_numberOfTrailingZeros 76 = .ok (.iconst 1, 1) := dk_4 (dk_at dksJ3_numberOfTrailingZeros_3 5 rfl rfl)
theorem dJ3_numberOfTrailingZeros_77 : decode cJ3_numberOfTrailingZeros 77 = .ok (.iushr, 1) := dk_124 (dk_at dksJ3_numberOfTrailingZeros_3 6 rfl rfl)
theorem dJ3_numberOfTrailingZeros_78 : decode cJ3_numberOfTrailingZeros 78 = .ok (.iadd, 1) := dk_96 (dk_at dksJ3_numberOfTrailingZeros_3 7 rfl rfl)
theorem dJ3_numberOfTrailingZeros_79 : decode cJ3_numberOfTrailingZeros 79 = .ok (.ireturn, 1) := dk_172 (dk_at dksJ3_numberOfTrailingZeros_3 8 rfl rfl)
abbrev cJ3_numberOfLeadingZeros : ByteArray := prog_33_method_47_code
def yJ3_numberOfLeadingZeros : MethodName := ⟨RJ3, "numberOfLeadingZeros", "(I)I"⟩
def dkwJ3_numberOfLeadingZeros_3 : List UInt8 := [5, 124, 59, 27, 26, 4, 124, 100, 172]
abbrev dktJ3_numberOfLeadingZeros_3 : List UInt8 := dkwJ3_numberOfLeadingZeros_3 ++ []
def dkwJ3_numberOfLeadingZeros_2 : List UInt8 := [124, 59, 26, 16, 16, 161, 0, 10, 132, 1, 252, 26, 7, 124, 59, 26, 7, 161, 0, 10, 132, 1, 254, 26]
abbrev dktJ3_numberOfLeadingZeros_2 : List UInt8 := dkwJ3_numberOfLeadingZeros_2 ++ dktJ3_numberOfLeadingZeros_3
def dkwJ3_numberOfLeadingZeros_1 : List UInt8 := [161, 0, 11, 132, 1, 240, 26, 16, 16, 124, 59, 26, 17, 1, 0, 161, 0, 11, 132, 1, 248, 26, 16, 8]
abbrev dktJ3_numberOfLeadingZeros_1 : List UInt8 := dkwJ3_numberOfLeadingZeros_1 ++ dktJ3_numberOfLeadingZeros_2
def dkwJ3_numberOfLeadingZeros_0 : List UInt8 := [26, 157, 0, 14, 26, 154, 0, 8, 16, 32, 167, 0, 4, 3, 172, 16, 31, 60, 26, 19, 1, 8]
abbrev dktJ3_numberOfLeadingZeros_0 : List UInt8 := dkwJ3_numberOfLeadingZeros_0 ++ dktJ3_numberOfLeadingZeros_1
theorem dksJ3_numberOfLeadingZeros_0 : cJ3_numberOfLeadingZeros.data.toList.drop 0 = dktJ3_numberOfLeadingZeros_0 := by decide +kernel
theorem dksJ3_numberOfLeadingZeros_1 : cJ3_numberOfLeadingZeros.data.toList.drop 22 = dktJ3_numberOfLeadingZeros_1 := dk_seg dksJ3_numberOfLeadingZeros_0 22 rfl rfl
theorem dksJ3_numberOfLeadingZeros_2 : cJ3_numberOfLeadingZeros.data.toList.drop 46 = dktJ3_numberOfLeadingZeros_2 := dk_seg dksJ3_numberOfLeadingZeros_1 24 rfl rfl
theorem dksJ3_numberOfLeadingZeros_3 : cJ3_numberOfLeadingZeros.data.toList.drop 70 = dktJ3_numberOfLeadingZeros_3 := dk_seg dksJ3_numberOfLeadingZeros_2 24 rfl rfl
theorem dJ3_numberOfLeadingZeros_0 : decode cJ3_numberOfLeadingZeros 0 = .ok (.iload_n 0, 1) := dk_26 (dk_at dksJ3_numberOfLeadingZeros_0 0 rfl rfl)
theorem dJ3_numberOfLeadingZeros_1 : decode cJ3_numberOfLeadingZeros 1 = .ok (.ifCond .gt 14, 3) := dk_157 0 14 (dk_at dksJ3_numberOfLeadingZeros_0 1 rfl rfl)
theorem dJ3_numberOfLeadingZeros_4 : decode cJ3_numberOfLeadingZeros 4 = .ok (.iload_n 0, 1) := dk_26 (dk_at dksJ3_numberOfLeadingZeros_0 4 rfl rfl)
theorem dJ3_numberOfLeadingZeros_5 : decode cJ3_numberOfLeadingZeros 5 = .ok (.ifCond .ne 8, 3) := dk_154 0 8 (dk_at dksJ3_numberOfLeadingZeros_0 5 rfl rfl)
theorem dJ3_numberOfLeadingZeros_8 : decode cJ3_numberOfLeadingZeros 8 = .ok (.bipush 32, 2) := dk_16 32 (dk_at dksJ3_numberOfLeadingZeros_0 8 rfl rfl)
theorem dJ3_numberOfLeadingZeros_10 : decode cJ3_numberOfLeadingZeros 10 = .ok (.goto 4, 3) := dk_167 0 4 (dk_at dksJ3_numberOfLeadingZeros_0 10 rfl rfl)
theorem dJ3_numberOfLeadingZeros_13 : decode cJ3_numberOfLeadingZeros 13 = .ok (.iconst 0, 1) := dk_3 (dk_at dksJ3_numberOfLeadingZeros_0 13 rfl rfl)
theorem dJ3_numberOfLeadingZeros_14 : decode cJ3_numberOfLeadingZeros 14 = .ok (.ireturn, 1) := dk_172 (dk_at dksJ3_numberOfLeadingZeros_0 14 rfl rfl)
theorem dJ3_numberOfLeadingZeros_15 : decode cJ3_numberOfLeadingZeros 15 = .ok (.bipush 31, 2) := dk_16 31 (dk_at dksJ3_numberOfLeadingZeros_0 15 rfl rfl)
theorem dJ3_numberOfLeadingZeros_17 : decode cJ3_numberOfLeadingZeros 17 = .ok (.istore_n 1, 1) := dk_60 (dk_at dksJ3_numberOfLeadingZeros_0 17 rfl rfl)
theorem dJ3_numberOfLeadingZeros_18 : decode cJ3_numberOfLeadingZeros 18 = .ok (.iload_n 0, 1) := dk_26 (dk_at dksJ3_numberOfLeadingZeros_0 18 rfl rfl)
theorem dJ3_numberOfLeadingZeros_19 : decode cJ3_numberOfLeadingZeros 19 = .ok (.ldc_w 264, 3) := dk_19 1 8 (dk_at dksJ3_numberOfLeadingZeros_0 19 rfl rfl)
theorem dJ3_numberOfLeadingZeros_22 : decode cJ3_numberOfLeadingZeros 22 = .ok (.if_icmp .lt 11, 3) := dk_161 0 11 (dk_at dksJ3_numberOfLeadingZeros_1 0 rfl rfl)
theorem dJ3_numberOfLeadingZeros_25 : decode cJ3_numberOfLeadingZeros 25 = .ok (.iinc 1 (-16), 3) := dk_132 1 240 (dk_at dksJ3_numberOfLeadingZeros_1 3 rfl rfl)
theorem dJ3_numberOfLeadingZeros_28 : decode cJ3_numberOfLeadingZeros 28 = .ok (.iload_n 0, 1) := dk_26 (dk_at dksJ3_numberOfLeadingZeros_1 6 rfl rfl)
theorem dJ3_numberOfLeadingZeros_29 : decode cJ3_numberOfLeadingZeros 29 = .ok (.bipush 16, 2) := dk_16 16 (dk_at dksJ3_numberOfLeadingZeros_1 7 rfl rfl)
theorem dJ3_numberOfLeadingZeros_31 : decode cJ3_numberOfLeadingZeros 31 = .ok (.iushr, 1) := dk_124 (dk_at dksJ3_numberOfLeadingZeros_1 9 rfl rfl)
theorem dJ3_numberOfLeadingZeros_32 : decode cJ3_numberOfLeadingZeros 32 = .ok (.istore_n 0, 1) := dk_59 (dk_at dksJ3_numberOfLeadingZeros_1 10 rfl rfl)
theorem dJ3_numberOfLeadingZeros_33 : decode cJ3_numberOfLeadingZeros 33 = .ok (.iload_n 0, 1) := dk_26 (dk_at dksJ3_numberOfLeadingZeros_1 11 rfl rfl)
theorem dJ3_numberOfLeadingZeros_34 : decode cJ3_numberOfLeadingZeros 34 = .ok (.sipush 256, 3) := dk_17 1 0 (dk_at dksJ3_numberOfLeadingZeros_1 12 rfl rfl)
theorem dJ3_numberOfLeadingZeros_37 : decode cJ3_numberOfLeadingZeros 37 = .ok (.if_icmp .lt 11, 3) := dk_161 0 11 (dk_at dksJ3_numberOfLeadingZeros_1 15 rfl rfl)
theorem dJ3_numberOfLeadingZeros_40 : decode cJ3_numberOfLeadingZeros 40 = .ok (.iinc 1 (-8), 3) := dk_132 1 248 (dk_at dksJ3_numberOfLeadingZeros_1 18 rfl rfl)
theorem dJ3_numberOfLeadingZeros_43 : decode cJ3_numberOfLeadingZeros 43 = .ok (.iload_n 0, 1) := dk_26 (dk_at dksJ3_numberOfLeadingZeros_1 21 rfl rfl)
theorem dJ3_numberOfLeadingZeros_44 : decode cJ3_numberOfLeadingZeros 44 = .ok (.bipush 8, 2) := dk_16 8 (dk_at dksJ3_numberOfLeadingZeros_1 22 rfl rfl)
theorem dJ3_numberOfLeadingZeros_46 : decode cJ3_numberOfLeadingZeros 46 = .ok (.iushr, 1) := dk_124 (dk_at dksJ3_numberOfLeadingZeros_2 0 rfl rfl)
theorem dJ3_numberOfLeadingZeros_47 : decode cJ3_numberOfLeadingZeros 47 = .ok (.istore_n 0, 1) := dk_59 (dk_at dksJ3_numberOfLeadingZeros_2 1 rfl rfl)
theorem dJ3_numberOfLeadingZeros_48 : decode cJ3_numberOfLeadingZeros 48 = .ok (.iload_n 0, 1) := dk_26 (dk_at dksJ3_numberOfLeadingZeros_2 2 rfl rfl)
theorem dJ3_numberOfLeadingZeros_49 : decode cJ3_numberOfLeadingZeros 49 = .ok (.bipush 16, 2) := dk_16 16 (dk_at dksJ3_numberOfLeadingZeros_2 3 rfl rfl)
theorem dJ3_numberOfLeadingZeros_51 : decode cJ3_numberOfLeadingZeros 51 = .ok (.if_icmp .lt 10, 3) := dk_161 0 10 (dk_at dksJ3_numberOfLeadingZeros_2 5 rfl rfl)
theorem dJ3_numberOfLeadingZeros_54 : decode cJ3_numberOfLeadingZeros 54 = .ok (.iinc 1 (-4), 3) := dk_132 1 252 (dk_at dksJ3_numberOfLeadingZeros_2 8 rfl rfl)
theorem dJ3_numberOfLeadingZeros_57 : decode cJ3_numberOfLeadingZeros 57 = .ok (.iload_n 0, 1) := dk_26 (dk_at dksJ3_numberOfLeadingZeros_2 11 rfl rfl)
theorem dJ3_numberOfLeadingZeros_58 : decode cJ3_numberOfLeadingZeros 58 = .ok (.iconst 4, 1) := dk_7 (dk_at dksJ3_numberOfLeadingZeros_2 12 rfl rfl)
theorem dJ3_numberOfLeadingZeros_59 : decode cJ3_numberOfLeadingZeros 59 = .ok (.iushr, 1) := dk_124 (dk_at dksJ3_numberOfLeadingZeros_2 13 rfl rfl)
theorem dJ3_numberOfLeadingZeros_60 : decode cJ3_numberOfLeadingZeros 60 = .ok (.istore_n 0, 1) := dk_59 (dk_at dksJ3_numberOfLeadingZeros_2 14 rfl rfl)
theorem dJ3_numberOfLeadingZeros_61 : decode cJ3_numberOfLeadingZeros 61 = .ok (.iload_n 0, 1) := dk_26 (dk_at dksJ3_numberOfLeadingZeros_2 15 rfl rfl)
theorem dJ3_numberOfLeadingZeros_62 : decode cJ3_numberOfLeadingZeros 62 = .ok (.iconst 4, 1) := dk_7 (dk_at dksJ3_numberOfLeadingZeros_2 16 rfl rfl)
theorem dJ3_numberOfLeadingZeros_63 : decode cJ3_numberOfLeadingZeros 63 = .ok (.if_icmp .lt 10, 3) := dk_161 0 10 (dk_at dksJ3_numberOfLeadingZeros_2 17 rfl rfl)
theorem dJ3_numberOfLeadingZeros_66 : decode cJ3_numberOfLeadingZeros 66 = .ok (.iinc 1 (-2), 3) := dk_132 1 254 (dk_at dksJ3_numberOfLeadingZeros_2 20 rfl rfl)
theorem dJ3_numberOfLeadingZeros_69 : decode cJ3_numberOfLeadingZeros 69 = .ok (.iload_n 0, 1) := dk_26 (dk_at dksJ3_numberOfLeadingZeros_2 23 rfl rfl)
theorem dJ3_numberOfLeadingZeros_70 : decode cJ3_numberOfLeadingZeros 70 = .ok (.iconst 2, 1) := dk_5 (dk_at dksJ3_numberOfLeadingZeros_3 0 rfl rfl)
theorem dJ3_numberOfLeadingZeros_71 : decode cJ3_numberOfLeadingZeros 71 = .ok (.iushr, 1) := dk_124 (dk_at dksJ3_numberOfLeadingZeros_3 1 rfl rfl)
theorem dJ3_numberOfLeadingZeros_72 : decode cJ3_numberOfLeadingZeros 72 = .ok (.istore_n 0, 1) := dk_59 (dk_at dksJ3_numberOfLeadingZeros_3 2 rfl rfl)
theorem dJ3_numberOfLeadingZeros_73 : decode cJ3_numberOfLeadingZeros 73 = .ok (.iload_n 1, 1) := dk_27 (dk_at dksJ3_numberOfLeadingZeros_3 3 rfl rfl)
theorem dJ3_numberOfLeadingZeros_74 : decode cJ3_numberOfLeadingZeros 74 = .ok (.iload_n 0, 1) := dk_26 (dk_at dksJ3_numberOfLeadingZeros_3 4 rfl rfl)
theorem dJ3_numberOfLeadingZeros_75 : decode cJ3_numberOfLeadingZeros 75 = .ok (.iconst 1, 1) := dk_4 (dk_at dksJ3_numberOfLeadingZeros_3 5 rfl rfl)
theorem dJ3_numberOfLeadingZeros_76 : decode cJ3_numberOfLeadingZeros 76 = .ok (.iushr, 1) := dk_124 (dk_at dksJ3_numberOfLeadingZeros_3 6 rfl rfl)
theorem dJ3_numberOfLeadingZeros_77 : decode cJ3_numberOfLeadingZeros 77 = .ok (.isub, 1) := dk_100 (dk_at dksJ3_numberOfLeadingZeros_3 7 rfl rfl)
theorem dJ3_numberOfLeadingZeros_78 : decode cJ3_numberOfLeadingZeros 78 = .ok (.ireturn, 1) := dk_172 (dk_at dksJ3_numberOfLeadingZeros_3 8 rfl rfl)
theorem q102 : (Jvm.Cond.initialized "java/lang/Integer") ∈ lw_all := lw_g (lw_at lw_m1 15 rfl) rfl
theorem q454 : (Jvm.Cond.static ({ cls := "java/lang/Integer", name := "bitCount", desc := "(I)I" } : Jvm.MethodName)) ∈ lw_all := lw_g (lw_at lw_m2 127 rfl) rfl
theorem q455 : (Jvm.Cond.code ({ cls := "java/lang/Integer", name := "bitCount", desc := "(I)I" } : Jvm.MethodName) prog_33_method_49_code (1 : Nat) (Option.some Jvm.ClassFile.FieldType.int)) ∈ lw_all := lw_g (lw_at lw_m2 128 rfl) rfl
theorem q456 : (Jvm.Cond.constant "java/lang/Integer" (265 : Nat) (1431655765 : Int32)) ∈ lw_all := lw_g (lw_at lw_m2 129 rfl) rfl
theorem q457 : (Jvm.Cond.constant "java/lang/Integer" (266 : Nat) (858993459 : Int32)) ∈ lw_all := lw_g (lw_at lw_m2 130 rfl) rfl
theorem q458 : (Jvm.Cond.constant "java/lang/Integer" (267 : Nat) (252645135 : Int32)) ∈ lw_all := lw_g (lw_at lw_m2 131 rfl) rfl
theorem q467 : (Jvm.Cond.static ({ cls := "java/lang/Integer", name := "numberOfTrailingZeros", desc := "(I)I" } : Jvm.MethodName)) ∈ lw_all := lw_g (lw_at lw_m2 140 rfl) rfl
theorem q468 : (Jvm.Cond.code ({ cls := "java/lang/Integer", name := "numberOfTrailingZeros", desc := "(I)I" } : Jvm.MethodName) prog_33_method_48_code (2 : Nat) (Option.some Jvm.ClassFile.FieldType.int)) ∈ lw_all := lw_g (lw_at lw_m2 141 rfl) rfl
theorem q469 : (Jvm.Cond.constant "java/lang/Integer" (264 : Nat) (65536 : Int32)) ∈ lw_all := lw_g (lw_at lw_m2 142 rfl) rfl
theorem q1536 : (Jvm.Cond.static ({ cls := "java/lang/Integer", name := "numberOfLeadingZeros", desc := "(I)I" } : Jvm.MethodName)) ∈ lw_all := lw_g (lw_at lw_m7 9 rfl) rfl
theorem q1537 : (Jvm.Cond.code ({ cls := "java/lang/Integer", name := "numberOfLeadingZeros", desc := "(I)I" } : Jvm.MethodName) prog_33_method_47_code (2 : Nat) (Option.some Jvm.ClassFile.FieldType.int)) ∈ lw_all := lw_g (lw_at lw_m7 10 rfl) rfl
/-! java/lang/Math -/
set_option maxRecDepth 100000
def RJ4 : String := "java/lang/Math"
abbrev cJ4_max : ByteArray := prog_35_method_65_code
def yJ4_max : MethodName := ⟨RJ4, "max", "(II)I"⟩
def dkwJ4_max_0 : List UInt8 := [26, 27, 161, 0, 7, 26, 167, 0, 4, 27, 172]
abbrev dktJ4_max_0 : List UInt8 := dkwJ4_max_0 ++ []
theorem dksJ4_max_0 : cJ4_max.data.toList.drop 0 = dktJ4_max_0 := by decide +kernel
theorem dJ4_max_0 : decode cJ4_max 0 = .ok (.iload_n 0, 1) := dk_26 (dk_at dksJ4_max_0 0 rfl rfl)
theorem dJ4_max_1 : decode cJ4_max 1 = .ok (.iload_n 1, 1) := dk_27 (dk_at dksJ4_max_0 1 rfl rfl)
theorem dJ4_max_2 : decode cJ4_max 2 = .ok (.if_icmp .lt 7, 3) := dk_161 0 7 (dk_at dksJ4_max_0 2 rfl rfl)
theorem dJ4_max_5 : decode cJ4_max 5 = .ok (.iload_n 0, 1) := dk_26 (dk_at dksJ4_max_0 5 rfl rfl)
theorem dJ4_max_6 : decode cJ4_max 6 = .ok (.goto 4, 3) := dk_167 0 4 (dk_at dksJ4_max_0 6 rfl rfl)
theorem dJ4_max_9 : decode cJ4_max 9 = .ok (.iload_n 1, 1) := dk_27 (dk_at dksJ4_max_0 9 rfl rfl)
theorem dJ4_max_10 : decode cJ4_max 10 = .ok (.ireturn, 1) := dk_172 (dk_at dksJ4_max_0 10 rfl rfl)
abbrev cJ4_multiplyExact : ByteArray := prog_35_method_30_code
def yJ4_multiplyExact : MethodName := ⟨RJ4, "multiplyExact", "(JJ)J"⟩
def dkwJ4_multiplyExact_3 : List UInt8 := [191, 22, 4, 173]
abbrev dktJ4_multiplyExact_3 : List UInt8 := dkwJ4_multiplyExact_3 ++ []
def dkwJ4_multiplyExact_2 : List UInt8 := [20, 0, 128, 148, 154, 0, 21, 32, 20, 0, 130, 148, 154, 0, 13, 187, 0, 109, 89, 18, 116, 183, 0, 113]
abbrev dktJ4_multiplyExact_2 : List UInt8 := dkwJ4_multiplyExact_2 ++ dktJ4_multiplyExact_3
def dkwJ4_multiplyExact_1 : List UInt8 := [125, 9, 148, 153, 0, 44, 32, 9, 148, 153, 0, 12, 22, 4, 32, 109, 30, 148, 154, 0, 19, 30]
abbrev dktJ4_multiplyExact_1 : List UInt8 := dkwJ4_multiplyExact_1 ++ dktJ4_multiplyExact_2
def dkwJ4_multiplyExact_0 : List UInt8 := [30, 32, 105, 55, 4, 30, 184, 0, 122, 55, 6, 32, 184, 0, 122, 55, 8, 22, 6, 22, 8, 129, 16, 31]
abbrev dktJ4_multiplyExact_0 : List UInt8 := dkwJ4_multiplyExact_0 ++ dktJ4_multiplyExact_1
theorem dksJ4_multiplyExact_0 : cJ4_multiplyExact.data.toList.drop 0 = dktJ4_multiplyExact_0 := by decide +kernel
theorem dksJ4_multiplyExact_1 : cJ4_multiplyExact.data.toList.drop 24 = dktJ4_multiplyExact_1 := dk_seg dksJ4_multiplyExact_0 24 rfl rfl
theorem dksJ4_multiplyExact_2 : cJ4_multiplyExact.data.toList.drop 46 = dktJ4_multiplyExact_2 := dk_seg dksJ4_multiplyExact_1 22 rfl rfl
theorem dksJ4_multiplyExact_3 : cJ4_multiplyExact.data.toList.drop 70 = dktJ4_multiplyExact_3 := dk_seg dksJ4_multiplyExact_2 24 rfl rfl
theorem dJ4_multiplyExact_0 : decode cJ4_multiplyExact 0 = .ok (.lload_n 0, 1) := dk_30 (dk_at dksJ4_multiplyExact_0 0 rfl rfl)
theorem dJ4_multiplyExact_1 : decode cJ4_multiplyExact 1 = .ok (.lload_n 2, 1) := dk_32 (dk_at dksJ4_multiplyExact_0 1 rfl rfl)
theorem dJ4_multiplyExact_2 : decode cJ4_multiplyExact 2 = .ok (.lmul, 1) := dk_105 (dk_at dksJ4_multiplyExact_0 2 rfl rfl)
theorem dJ4_multiplyExact_3 : decode cJ4_multiplyExact 3 = .ok (.lstore 4, 2) := dk_55 4 (dk_at dksJ4_multiplyExact_0 3 rfl rfl)
theorem dJ4_multiplyExact_5 : decode cJ4_multiplyExact 5 = .ok (.lload_n 0, 1) := dk_30 (dk_at dksJ4_multiplyExact_0 5 rfl rfl)
theorem dJ4_multiplyExact_6 : decode cJ4_multiplyExact 6 = .ok (.invokestatic 122, 3) := dk_184 0 122 (dk_at dksJ4_multiplyExact_0 6 rfl rfl)
theorem dJ4_multiplyExact_9 : decode cJ4_multiplyExact 9 = .ok (.lstore 6, 2) := dk_55 6 (dk_at dksJ4_multiplyExact_0 9 rfl rfl)
theorem dJ4_multiplyExact_11 : decode cJ4_multiplyExact 11 = .ok (.lload_n 2, 1) := dk_32 (dk_at dksJ4_multiplyExact_0 11 rfl rfl)
theorem dJ4_multiplyExact_12 : decode cJ4_multiplyExact 12 = .ok (.invokestatic 122, 3) := dk_184 0 122 (dk_at dksJ4_multiplyExact_0 12 rfl rfl)
theorem dJ4_multiplyExact_15 : decode cJ4_multiplyExact 15 = .ok (.lstore 8, 2) := dk_55 8 (dk_at dksJ4_multiplyExact_0 15 rfl rfl)
theorem dJ4_multiplyExact_17 : decode cJ4_multiplyExact 17 = .ok (.lload 6, 2) := dk_22 6 (dk_at dksJ4_multiplyExact_0 17 rfl rfl)
theorem dJ4_multiplyExact_19 : decode cJ4_multiplyExact 19 = .ok (.lload 8, 2) := dk_22 8 (dk_at dksJ4_multiplyExact_0 19 rfl rfl)
theorem dJ4_multiplyExact_21 : decode cJ4_multiplyExact 21 = .ok (.lor, 1) := dk_129 (dk_at dksJ4_multiplyExact_0 21 rfl rfl)
theorem dJ4_multiplyExact_22 : decode cJ4_multiplyExact 22 = .ok (.bipush 31, 2) := dk_16 31 (dk_at dksJ4_multiplyExact_0 22 rfl rfl)
theorem dJ4_multiplyExact_24 : decode cJ4_multiplyExact 24 = .ok (.lushr, 1) := dk_125 (dk_at dksJ4_multiplyExact_1 0 rfl rfl)
theorem dJ4_multiplyExact_25 : decode cJ4_multiplyExact 25 = .ok (.lconst 0, 1) := dk_9 (dk_at dksJ4_multiplyExact_1 1 rfl rfl)
theorem dJ4_multiplyExact_26 : decode cJ4_multiplyExact 26 = .ok (.lcmp, 1) := dk_148 (dk_at dksJ4_multiplyExact_1 2 rfl rfl)
theorem dJ4_multiplyExact_27 : decode cJ4_multiplyExact 27 = .ok (.ifCond .eq 44, 3) := dk_153 0 44 (dk_at dksJ4_multiplyExact_1 3 rfl rfl)
theorem dJ4_multiplyExact_30 : decode cJ4_multiplyExact 30 = .ok (.lload_n 2, 1) := dk_32 (dk_at dksJ4_multiplyExact_1 6 rfl rfl)
theorem dJ4_multiplyExact_31 : decode cJ4_multiplyExact 31 = .ok (.lconst 0, 1) := dk_9 (dk_at dksJ4_multiplyExact_1 7 rfl rfl)
theorem dJ4_multiplyExact_32 : decode cJ4_multiplyExact 32 = .ok (.lcmp, 1) := dk_148 (dk_at dksJ4_multiplyExact_1 8 rfl rfl)
theorem dJ4_multiplyExact_33 : decode cJ4_multiplyExact 33 = .ok (.ifCond .eq 12, 3) := dk_153 0 12 (dk_at dksJ4_multiplyExact_1 9 rfl rfl)
theorem dJ4_multiplyExact_36 : decode cJ4_multiplyExact 36 = .ok (.lload 4, 2) := dk_22 4 (dk_at dksJ4_multiplyExact_1 12 rfl rfl)
theorem dJ4_multiplyExact_38 : decode cJ4_multiplyExact 38 = .ok (.lload_n 2, 1) := dk_32 (dk_at dksJ4_multiplyExact_1 14 rfl rfl)
theorem dJ4_multiplyExact_39 : decode cJ4_multiplyExact 39 = .ok (.ldiv, 1) := dk_109 (dk_at dksJ4_multiplyExact_1 15 rfl rfl)
theorem dJ4_multiplyExact_40 : decode cJ4_multiplyExact 40 = .ok (.lload_n 0, 1) := dk_30 (dk_at dksJ4_multiplyExact_1 16 rfl rfl)
theorem dJ4_multiplyExact_41 : decode cJ4_multiplyExact 41 = .ok (.lcmp, 1) := dk_148 (dk_at dksJ4_multiplyExact_1 17 rfl rfl)
theorem dJ4_multiplyExact_42 : decode cJ4_multiplyExact 42 = .ok (.ifCond .ne 19, 3) := dk_154 0 19 (dk_at dksJ4_multiplyExact_1 18 rfl rfl)
theorem dJ4_multiplyExact_45 : decode cJ4_multiplyExact 45 = .ok (.lload_n 0, 1) := dk_30 (dk_at dksJ4_multiplyExact_1 21 rfl rfl)
theorem dJ4_multiplyExact_46 : decode cJ4_multiplyExact 46 = .ok (.ldc2_w 128, 3) := dk_20 0 128 (dk_at dksJ4_multiplyExact_2 0 rfl rfl)
theorem dJ4_multiplyExact_49 : decode cJ4_multiplyExact 49 = .ok (.lcmp, 1) := dk_148 (dk_at dksJ4_multiplyExact_2 3 rfl rfl)
theorem dJ4_multiplyExact_50 : decode cJ4_multiplyExact 50 = .ok (.ifCond .ne 21, 3) := dk_154 0 21 (dk_at dksJ4_multiplyExact_2 4 rfl rfl)
theorem dJ4_multiplyExact_53 : decode cJ4_multiplyExact 53 = .ok (.lload_n 2, 1) := dk_32 (dk_at dksJ4_multiplyExact_2 7 rfl rfl)
theorem dJ4_multiplyExact_54 : decode cJ4_multiplyExact 54 = .ok (.ldc2_w 130, 3) := dk_20 0 130 (dk_at dksJ4_multiplyExact_2 8 rfl rfl)
theorem dJ4_multiplyExact_57 : decode cJ4_multiplyExact 57 = .ok (.lcmp, 1) := dk_148 (dk_at dksJ4_multiplyExact_2 11 rfl rfl)
theorem dJ4_multiplyExact_58 : decode cJ4_multiplyExact 58 = .ok (.ifCond .ne 13, 3) := dk_154 0 13 (dk_at dksJ4_multiplyExact_2 12 rfl rfl)
theorem dJ4_multiplyExact_61 : decode cJ4_multiplyExact 61 = .ok (.new 109, 3) := dk_187 0 109 (dk_at dksJ4_multiplyExact_2 15 rfl rfl)
theorem dJ4_multiplyExact_64 : decode cJ4_multiplyExact 64 = .ok (.dup, 1) := dk_89 (dk_at dksJ4_multiplyExact_2 18 rfl rfl)
theorem dJ4_multiplyExact_65 : decode cJ4_multiplyExact 65 = .ok (.ldc 116, 2) := dk_18 116 (dk_at dksJ4_multiplyExact_2 19 rfl rfl)
theorem dJ4_multiplyExact_67 : decode cJ4_multiplyExact 67 = .ok (.invokespecial 113, 3) := dk_183 0 113 (dk_at dksJ4_multiplyExact_2 21 rfl rfl)
theorem dJ4_multiplyExact_70 : decode cJ4_multiplyExact 70 = .ok (.athrow, 1) := dk_191 (dk_at dksJ4_multiplyExact_3 0 rfl rfl)
theorem dJ4_multiplyExact_71 : decode cJ4_multiplyExact 71 = .ok (.lload 4, 2) := dk_22 4 (dk_at dksJ4_multiplyExact_3 1 rfl rfl)
theorem dJ4_multiplyExact_73 : decode cJ4_multiplyExact 73 = .ok (.lreturn, 1) := dk_173 (dk_at dksJ4_multiplyExact_3 3 rfl rfl)
abbrev cJ4_abs : ByteArray := prog_35_method_61_code
def yJ4_abs : MethodName := ⟨RJ4, "abs", "(J)J"⟩
def dkwJ4_abs_0 : List UInt8 := [30, 9, 148, 156, 0, 8, 30, 117, 167, 0, 4, 30, 173]
abbrev dktJ4_abs_0 : List UInt8 := dkwJ4_abs_0 ++ []
theorem dksJ4_abs_0 : cJ4_abs.data.toList.drop 0 = dktJ4_abs_0 := by decide +kernel
theorem dJ4_abs_0 : decode cJ4_abs 0 = .ok (.lload_n 0, 1) := dk_30 (dk_at dksJ4_abs_0 0 rfl rfl)
theorem dJ4_abs_1 : decode cJ4_abs 1 = .ok (.lconst 0, 1) := dk_9 (dk_at dksJ4_abs_0 1 rfl rfl)
theorem dJ4_abs_2 : decode cJ4_abs 2 = .ok (.lcmp, 1) := dk_148 (dk_at dksJ4_abs_0 2 rfl rfl)
theorem dJ4_abs_3 : decode cJ4_abs 3 = .ok (.ifCond .ge 8, 3) := dk_156 0 8 (dk_at dksJ4_abs_0 3 rfl rfl)
theorem dJ4_abs_6 : decode cJ4_abs 6 = .ok (.lload_n 0, 1) := dk_30 (dk_at dksJ4_abs_0 6 rfl rfl)
theorem dJ4_abs_7 : decode cJ4_abs 7 = .ok (.lneg, 1) := dk_117 (dk_at dksJ4_abs_0 7 rfl rfl)
theorem dJ4_abs_8 : decode cJ4_abs 8 = .ok (.goto 4, 3) := dk_167 0 4 (dk_at dksJ4_abs_0 8 rfl rfl)
theorem dJ4_abs_11 : decode cJ4_abs 11 = .ok (.lload_n 0, 1) := dk_30 (dk_at dksJ4_abs_0 11 rfl rfl)
theorem dJ4_abs_12 : decode cJ4_abs 12 = .ok (.lreturn, 1) := dk_173 (dk_at dksJ4_abs_0 12 rfl rfl)
abbrev cJ4_addExact : ByteArray := prog_35_method_25_code
def yJ4_addExact : MethodName := ⟨RJ4, "addExact", "(JJ)J"⟩
def dkwJ4_addExact_1 : List UInt8 := [18, 116, 183, 0, 113, 191, 22, 4, 173]
abbrev dktJ4_addExact_1 : List UInt8 := dkwJ4_addExact_1 ++ []
def dkwJ4_addExact_0 : List UInt8 := [30, 32, 97, 55, 4, 30, 22, 4, 131, 32, 22, 4, 131, 127, 9, 148, 156, 0, 13, 187, 0, 109, 89]
abbrev dktJ4_addExact_0 : List UInt8 := dkwJ4_addExact_0 ++ dktJ4_addExact_1
theorem dksJ4_addExact_0 : cJ4_addExact.data.toList.drop 0 = dktJ4_addExact_0 := by decide +kernel
theorem dksJ4_addExact_1 : cJ4_addExact.data.toList.drop 23 = dktJ4_addExact_1 := dk_seg dksJ4_addExact_0 23 rfl rfl
theorem dJ4_addExact_0 : decode cJ4_addExact 0 = .ok (.lload_n 0, 1) := dk_30 (dk_at dksJ4_addExact_0 0 rfl rfl)
theorem dJ4_addExact_1 : decode cJ4_addExact 1 = .ok (.lload_n 2, 1) := dk_32 (dk_at dksJ4_addExact_0 1 rfl rfl)
theorem dJ4_addExact_2 : decode cJ4_addExact 2 = .ok (.ladd, 1) := dk_97 (dk_at dksJ4_addExact_0 2 rfl rfl)
theorem dJ4_addExact_3 : decode cJ4_addExact 3 = .ok (.lstore 4, 2) := dk_55 4 (dk_at dksJ4_addExact_0 3 rfl rfl)
theorem dJ4_addExact_5 : decode cJ4_addExact 5 = .ok (.lload_n 0, 1) := dk_30 (dk_at dksJ4_addExact_0 5 rfl rfl)
theorem dJ4_addExact_6 : decode cJ4_addExact 6 = .ok (.lload 4, 2) := dk_22 4 (dk_at dksJ4_addExact_0 6 rfl rfl)
theorem dJ4_addExact_8 : decode cJ4_addExact 8 = .ok (.lxor, 1) := dk_131 (dk_at dksJ4_addExact_0 8 rfl rfl)
theorem dJ4_addExact_9 : decode cJ4_addExact 9 = .ok (.lload_n 2, 1) := dk_32 (dk_at dksJ4_addExact_0 9 rfl rfl)
theorem dJ4_addExact_10 : decode cJ4_addExact 10 = .ok (.lload 4, 2) := dk_22 4 (dk_at dksJ4_addExact_0 10 rfl rfl)
theorem dJ4_addExact_12 : decode cJ4_addExact 12 = .ok (.lxor, 1) := dk_131 (dk_at dksJ4_addExact_0 12 rfl rfl)
theorem dJ4_addExact_13 : decode cJ4_addExact 13 = .ok (.land, 1) := dk_127 (dk_at dksJ4_addExact_0 13 rfl rfl)
theorem dJ4_addExact_14 : decode cJ4_addExact 14 = .ok (.lconst 0, 1) := dk_9 (dk_at dksJ4_addExact_0 14 rfl rfl)
theorem dJ4_addExact_15 : decode cJ4_addExact 15 = .ok (.lcmp, 1) := dk_148 (dk_at dksJ4_addExact_0 15 rfl rfl)
theorem dJ4_addExact_16 : decode cJ4_addExact 16 = .ok (.ifCond .ge 13, 3) := dk_156 0 13 (dk_at dksJ4_addExact_0 16 rfl rfl)
theorem dJ4_addExact_19 : decode cJ4_addExact 19 = .ok (.new 109, 3) := dk_187 0 109 (dk_at dksJ4_addExact_0 19 rfl rfl)
theorem dJ4_addExact_22 : decode cJ4_addExact 22 = .ok (.dup, 1) := dk_89 (dk_at dksJ4_addExact_0 22 rfl rfl)
theorem dJ4_addExact_23 : decode cJ4_addExact 23 = .ok (.ldc 116, 2) := dk_18 116 (dk_at dksJ4_addExact_1 0 rfl rfl)
theorem dJ4_addExact_25 : decode cJ4_addExact 25 = .ok (.invokespecial 113, 3) := dk_183 0 113 (dk_at dksJ4_addExact_1 2 rfl rfl)
theorem dJ4_addExact_28 : decode cJ4_addExact 28 = .ok (.athrow, 1) := dk_191 (dk_at dksJ4_addExact_1 5 rfl rfl)
theorem dJ4_addExact_29 : decode cJ4_addExact 29 = .ok (.lload 4, 2) := dk_22 4 (dk_at dksJ4_addExact_1 6 rfl rfl)
theorem dJ4_addExact_31 : decode cJ4_addExact 31 = .ok (.lreturn, 1) := dk_173 (dk_at dksJ4_addExact_1 8 rfl rfl)
abbrev cJ4_subtractExact : ByteArray := prog_35_method_27_code
def yJ4_subtractExact : MethodName := ⟨RJ4, "subtractExact", "(JJ)J"⟩
def dkwJ4_subtractExact_1 : List UInt8 := [183, 0, 113, 191, 22, 4, 173]
abbrev dktJ4_subtractExact_1 : List UInt8 := dkwJ4_subtractExact_1 ++ []
def dkwJ4_subtractExact_0 : List UInt8 := [30, 32, 101, 55, 4, 30, 32, 131, 30, 22, 4, 131, 127, 9, 148, 156, 0, 13, 187, 0, 109, 89, 18, 116]
abbrev dktJ4_subtractExact_0 : List UInt8 := dkwJ4_subtractExact_0 ++ dktJ4_subtractExact_1
theorem dksJ4_subtractExact_0 : cJ4_subtractExact.data.toList.drop 0 = dktJ4_subtractExact_0 := by decide +kernel
theorem dksJ4_subtractExact_1 : cJ4_subtractExact.data.toList.drop 24 = dktJ4_subtractExact_1 := dk_seg dksJ4_subtractExact_0 24 rfl rfl
theorem dJ4_subtractExact_0 : decode cJ4_subtractExact 0 = .ok (.lload_n 0, 1) := dk_30 (dk_at dksJ4_subtractExact_0 0 rfl rfl)
theorem dJ4_subtractExact_1 : decode cJ4_subtractExact 1 = .ok (.lload_n 2, 1) := dk_32 (dk_at dksJ4_subtractExact_0 1 rfl rfl)
theorem dJ4_subtractExact_2 : decode cJ4_subtractExact 2 = .ok (.lsub, 1) := dk_101 (dk_at dksJ4_subtractExact_0 2 rfl rfl)
theorem dJ4_subtractExact_3 : decode cJ4_subtractExact 3 = .ok (.lstore 4, 2) := dk_55 4 (dk_at dksJ4_subtractExact_0 3 rfl rfl)
theorem dJ4_subtractExact_5 : decode cJ4_subtractExact 5 = .ok (.lload_n 0, 1) := dk_30 (dk_at dksJ4_subtractExact_0 5 rfl rfl)
theorem dJ4_subtractExact_6 : decode cJ4_subtractExact 6 = .ok (.lload_n 2, 1) := dk_32 (dk_at dksJ4_subtractExact_0 6 rfl rfl)
theorem dJ4_subtractExact_7 : decode cJ4_subtractExact 7 = .ok (.lxor, 1) := dk_131 (dk_at dksJ4_subtractExact_0 7 rfl rfl)
theorem dJ4_subtractExact_8 : decode cJ4_subtractExact 8 = .ok (.lload_n 0, 1) := dk_30 (dk_at dksJ4_subtractExact_0 8 rfl rfl)
theorem dJ4_subtractExact_9 : decode cJ4_subtractExact 9 = .ok (.lload 4, 2) := dk_22 4 (dk_at dksJ4_subtractExact_0 9 rfl rfl)
theorem dJ4_subtractExact_11 : decode cJ4_subtractExact 11 = .ok (.lxor, 1) := dk_131 (dk_at dksJ4_subtractExact_0 11 rfl rfl)
theorem dJ4_subtractExact_12 : decode cJ4_subtractExact 12 = .ok (.land, 1) := dk_127 (dk_at dksJ4_subtractExact_0 12 rfl rfl)
theorem dJ4_subtractExact_13 : decode cJ4_subtractExact 13 = .ok (.lconst 0, 1) := dk_9 (dk_at dksJ4_subtractExact_0 13 rfl rfl)
theorem dJ4_subtractExact_14 : decode cJ4_subtractExact 14 = .ok (.lcmp, 1) := dk_148 (dk_at dksJ4_subtractExact_0 14 rfl rfl)
theorem dJ4_subtractExact_15 : decode cJ4_subtractExact 15 = .ok (.ifCond .ge 13, 3) := dk_156 0 13 (dk_at dksJ4_subtractExact_0 15 rfl rfl)
theorem dJ4_subtractExact_18 : decode cJ4_subtractExact 18 = .ok (.new 109, 3) := dk_187 0 109 (dk_at dksJ4_subtractExact_0 18 rfl rfl)
theorem dJ4_subtractExact_21 : decode cJ4_subtractExact 21 = .ok (.dup, 1) := dk_89 (dk_at dksJ4_subtractExact_0 21 rfl rfl)
theorem dJ4_subtractExact_22 : decode cJ4_subtractExact 22 = .ok (.ldc 116, 2) := dk_18 116 (dk_at dksJ4_subtractExact_0 22 rfl rfl)
theorem dJ4_subtractExact_24 : decode cJ4_subtractExact 24 = .ok (.invokespecial 113, 3) := dk_183 0 113 (dk_at dksJ4_subtractExact_1 0 rfl rfl)
theorem dJ4_subtractExact_27 : decode cJ4_subtractExact 27 = .ok (.athrow, 1) := dk_191 (dk_at dksJ4_subtractExact_1 3 rfl rfl)
theorem dJ4_subtractExact_28 : decode cJ4_subtractExact 28 = .ok (.lload 4, 2) := dk_22 4 (dk_at dksJ4_subtractExact_1 4 rfl rfl)
theorem dJ4_subtractExact_30 : decode cJ4_subtractExact 30 = .ok (.lreturn, 1) := dk_173 (dk_at dksJ4_subtractExact_1 6 rfl rfl)
abbrev cJ4_toIntExact : ByteArray := prog_35_method_43_code
def yJ4_toIntExact : MethodName := ⟨RJ4, "toIntExact", "(J)I"⟩
def dkwJ4_toIntExact_0 : List UInt8 := [30, 136, 133, 30, 148, 153, 0, 13, 187, 0, 109, 89, 18, 111, 183, 0, 113, 191, 30, 136, 172]
abbrev dktJ4_toIntExact_0 : List UInt8 := dkwJ4_toIntExact_0 ++ []
theorem dksJ4_toIntExact_0 : cJ4_toIntExact.data.toList.drop 0 = dktJ4_toIntExact_0 := by decide +kernel
theorem dJ4_toIntExact_0 : decode cJ4_toIntExact 0 = .ok (.lload_n 0, 1) := dk_30 (dk_at dksJ4_toIntExact_0 0 rfl rfl)
theorem dJ4_toIntExact_1 : decode cJ4_toIntExact 1 = .ok (.l2i, 1) := dk_136 (dk_at dksJ4_toIntExact_0 1 rfl rfl)
theorem dJ4_toIntExact_2 : decode cJ4_toIntExact 2 = .ok (.i2l, 1) := dk_133 (dk_at dksJ4_toIntExact_0 2 rfl rfl)
theorem dJ4_toIntExact_3 : decode cJ4_toIntExact 3 = .ok (.lload_n 0, 1) := dk_30 (dk_at dksJ4_toIntExact_0 3 rfl rfl)
theorem dJ4_toIntExact_4 : decode cJ4_toIntExact 4 = .ok (.lcmp, 1) := dk_148 (dk_at dksJ4_toIntExact_0 4 rfl rfl)
theorem dJ4_toIntExact_5 : decode cJ4_toIntExact 5 = .ok (.ifCond .eq 13, 3) := dk_153 0 13 (dk_at dksJ4_toIntExact_0 5 rfl rfl)
theorem dJ4_toIntExact_8 : decode cJ4_toIntExact 8 = .ok (.new 109, 3) := dk_187 0 109 (dk_at dksJ4_toIntExact_0 8 rfl rfl)
theorem dJ4_toIntExact_11 : decode cJ4_toIntExact 11 = .ok (.dup, 1) := dk_89 (dk_at dksJ4_toIntExact_0 11 rfl rfl)
theorem dJ4_toIntExact_12 : decode cJ4_toIntExact 12 = .ok (.ldc 111, 2) := dk_18 111 (dk_at dksJ4_toIntExact_0 12 rfl rfl)
theorem dJ4_toIntExact_14 : decode cJ4_toIntExact 14 = .ok (.invokespecial 113, 3) := dk_183 0 113 (dk_at dksJ4_toIntExact_0 14 rfl rfl)
theorem dJ4_toIntExact_17 : decode cJ4_toIntExact 17 = .ok (.athrow, 1) := dk_191 (dk_at dksJ4_toIntExact_0 17 rfl rfl)
theorem dJ4_toIntExact_18 : decode cJ4_toIntExact 18 = .ok (.lload_n 0, 1) := dk_30 (dk_at dksJ4_toIntExact_0 18 rfl rfl)
theorem dJ4_toIntExact_19 : decode cJ4_toIntExact 19 = .ok (.l2i, 1) := dk_136 (dk_at dksJ4_toIntExact_0 19 rfl rfl)
theorem dJ4_toIntExact_20 : decode cJ4_toIntExact 20 = .ok (.ireturn, 1) := dk_172 (dk_at dksJ4_toIntExact_0 20 rfl rfl)
abbrev cJ4_multiplyExact_2 : ByteArray := prog_35_method_28_code
def yJ4_multiplyExact_2 : MethodName := ⟨RJ4, "multiplyExact", "(II)I"⟩
def dkwJ4_multiplyExact_2_1 : List UInt8 := [32, 136, 172]
abbrev dktJ4_multiplyExact_2_1 : List UInt8 := dkwJ4_multiplyExact_2_1 ++ []
def dkwJ4_multiplyExact_2_0 : List UInt8 := [26, 133, 27, 133, 105, 65, 32, 136, 133, 32, 148, 153, 0, 13, 187, 0, 109, 89, 18, 111, 183, 0, 113, 191]
abbrev dktJ4_multiplyExact_2_0 : List UInt8 := dkwJ4_multiplyExact_2_0 ++ dktJ4_multiplyExact_2_1
theorem dksJ4_multiplyExact_2_0 : cJ4_multiplyExact_2.data.toList.drop 0 = dktJ4_multiplyExact_2_0 := by decide +kernel
theorem dksJ4_multiplyExact_2_1 : cJ4_multiplyExact_2.data.toList.drop 24 = dktJ4_multiplyExact_2_1 := dk_seg dksJ4_multiplyExact_2_0 24 rfl rfl
theorem dJ4_multiplyExact_2_0 : decode cJ4_multiplyExact_2 0 = .ok (.iload_n 0, 1) := dk_26 (dk_at dksJ4_multiplyExact_2_0 0 rfl rfl)
theorem dJ4_multiplyExact_2_1 : decode cJ4_multiplyExact_2 1 = .ok (.i2l, 1) := dk_133 (dk_at dksJ4_multiplyExact_2_0 1 rfl rfl)
theorem dJ4_multiplyExact_2_2 : decode cJ4_multiplyExact_2 2 = .ok (.iload_n 1, 1) := dk_27 (dk_at dksJ4_multiplyExact_2_0 2 rfl rfl)
theorem dJ4_multiplyExact_2_3 : decode cJ4_multiplyExact_2 3 = .ok (.i2l, 1) := dk_133 (dk_at dksJ4_multiplyExact_2_0 3 rfl rfl)
theorem dJ4_multiplyExact_2_4 : decode cJ4_multiplyExact_2 4 = .ok (.lmul, 1) := dk_105 (dk_at dksJ4_multiplyExact_2_0 4 rfl rfl)
theorem dJ4_multiplyExact_2_5 : decode cJ4_multiplyExact_2 5 = .ok (.lstore_n 2, 1) := dk_65 (dk_at dksJ4_multiplyExact_2_0 5 rfl rfl)
theorem dJ4_multiplyExact_2_6 : decode cJ4_multiplyExact_2 6 = .ok (.lload_n 2, 1) := dk_32 (dk_at dksJ4_multiplyExact_2_0 6 rfl rfl)
theorem dJ4_multiplyExact_2_7 : decode cJ4_multiplyExact_2 7 = .ok (.l2i, 1) := dk_136 (dk_at dksJ4_multiplyExact_2_0 7 rfl rfl)
theorem dJ4_multiplyExact_2_8 : decode cJ4_multiplyExact_2 8 = .ok (.i2l, 1) := dk_133 (dk_at dksJ4_multiplyExact_2_0 8 rfl rfl)
theorem dJ4_multiplyExact_2_9 : decode cJ4_multiplyExact_2 9 = .ok (.lload_n 2, 1) := dk_32 (dk_at dksJ4_multiplyExact_2_0 9 rfl rfl)
theorem dJ4_multiplyExact_2_10 : decode cJ4_multiplyExact_2 10 = .ok (.lcmp, 1) := dk_148 (dk_at dksJ4_multiplyExact_2_0 10 rfl rfl)
theorem dJ4_multiplyExact_2_11 : decode cJ4_multiplyExact_2 11 = .ok (.ifCond .eq 13, 3) := dk_153 0 13 (dk_at dksJ4_multiplyExact_2_0 11 rfl rfl)
theorem dJ4_multiplyExact_2_14 : decode cJ4_multiplyExact_2 14 = .ok (.new 109, 3) := dk_187 0 109 (dk_at dksJ4_multiplyExact_2_0 14 rfl rfl)
theorem dJ4_multiplyExact_2_17 : decode cJ4_multiplyExact_2 17 = .ok (.dup, 1) := dk_89 (dk_at dksJ4_multiplyExact_2_0 17 rfl rfl)
theorem dJ4_multiplyExact_2_18 : decode cJ4_multiplyExact_2 18 = .ok (.ldc 111, 2) := dk_18 111 (dk_at dksJ4_multiplyExact_2_0 18 rfl rfl)
theorem dJ4_multiplyExact_2_20 : decode cJ4_multiplyExact_2 20 = .ok (.invokespecial 113, 3) := dk_183 0 113 (dk_at dksJ4_multiplyExact_2_0 20 rfl rfl)
theorem dJ4_multiplyExact_2_23 : decode cJ4_multiplyExact_2 23 = .ok (.athrow, 1) := dk_191 (dk_at dksJ4_multiplyExact_2_0 23 rfl rfl)
theorem dJ4_multiplyExact_2_24 : decode cJ4_multiplyExact_2 24 = .ok (.lload_n 2, 1) := dk_32 (dk_at dksJ4_multiplyExact_2_1 0 rfl rfl)
theorem dJ4_multiplyExact_2_25 : decode cJ4_multiplyExact_2 25 = .ok (.l2i, 1) := dk_136 (dk_at dksJ4_multiplyExact_2_1 1 rfl rfl)
theorem dJ4_multiplyExact_2_26 : decode cJ4_multiplyExact_2 26 = .ok (.ireturn, 1) := dk_172 (dk_at dksJ4_multiplyExact_2_1 2 rfl rfl)
abbrev cJ4_floorMod : ByteArray := prog_35_method_50_code
def yJ4_floorMod : MethodName := ⟨RJ4, "floorMod", "(II)I"⟩
def dkwJ4_floorMod_0 : List UInt8 := [26, 27, 112, 61, 26, 27, 130, 156, 0, 11, 28, 153, 0, 7, 28, 27, 96, 172, 28, 172]
abbrev dktJ4_floorMod_0 : List UInt8 := dkwJ4_floorMod_0 ++ []
theorem dksJ4_floorMod_0 : cJ4_floorMod.data.toList.drop 0 = dktJ4_floorMod_0 := by decide +kernel
theorem dJ4_floorMod_0 : decode cJ4_floorMod 0 = .ok (.iload_n 0, 1) := dk_26 (dk_at dksJ4_floorMod_0 0 rfl rfl)
theorem dJ4_floorMod_1 : decode cJ4_floorMod 1 = .ok (.iload_n 1, 1) := dk_27 (dk_at dksJ4_floorMod_0 1 rfl rfl)
theorem dJ4_floorMod_2 : decode cJ4_floorMod 2 = .ok (.irem, 1) := dk_112 (dk_at dksJ4_floorMod_0 2 rfl rfl)
theorem dJ4_floorMod_3 : decode cJ4_floorMod 3 = .ok (.istore_n 2, 1) := dk_61 (dk_at dksJ4_floorMod_0 3 rfl rfl)
theorem dJ4_floorMod_4 : decode cJ4_floorMod 4 = .ok (.iload_n 0, 1) := dk_26 (dk_at dksJ4_floorMod_0 4 rfl rfl)
theorem dJ4_floorMod_5 : decode cJ4_floorMod 5 = .ok (.iload_n 1, 1) := dk_27 (dk_at dksJ4_floorMod_0 5 rfl rfl)
theorem dJ4_floorMod_6 : decode cJ4_floorMod 6 = .ok (.ixor, 1) := dk_130 (dk_at dksJ4_floorMod_0 6 rfl rfl)
theorem dJ4_floorMod_7 : decode cJ4_floorMod 7 = .ok (.ifCond .ge 11, 3) := dk_156 0 11 (dk_at dksJ4_floorMod_0 7 rfl rfl)
theorem dJ4_floorMod_10 : decode cJ4_floorMod 10 = .ok (.iload_n 2, 1) := dk_28 (dk_at dksJ4_floorMod_0 10 rfl rfl)
theorem dJ4_floorMod_11 : decode cJ4_floorMod 11 = .ok (.ifCond .eq 7, 3) := dk_153 0 7 (dk_at dksJ4_floorMod_0 11 rfl rfl)
theorem dJ4_floorMod_14 : decode cJ4_floorMod 14 = .ok (.iload_n 2, 1) := dk_28 (dk_at dksJ4_floorMod_0 14 rfl rfl)
theorem dJ4_floorMod_15 : decode cJ4_floorMod 15 = .ok (.iload_n 1, 1) := dk_27 (dk_at dksJ4_floorMod_0 15 rfl rfl)
theorem dJ4_floorMod_16 : decode cJ4_floorMod 16 = .ok (.iadd, 1) := dk_96 (dk_at dksJ4_floorMod_0 16 rfl rfl)
theorem dJ4_floorMod_17 : decode cJ4_floorMod 17 = .ok (.ireturn, 1) := dk_172 (dk_at dksJ4_floorMod_0 17 rfl rfl)
theorem dJ4_floorMod_18 : decode cJ4_floorMod 18 = .ok (.iload_n 2, 1) := dk_28 (dk_at dksJ4_floorMod_0 18 rfl rfl)
theorem dJ4_floorMod_19 : decode cJ4_floorMod 19 = .ok (.ireturn, 1) := dk_172 (dk_at dksJ4_floorMod_0 19 rfl rfl)
abbrev cJ4_floorMod_2 : ByteArray := prog_35_method_52_code
def yJ4_floorMod_2 : MethodName := ⟨RJ4, "floorMod", "(JJ)J"⟩
def dkwJ4_floorMod_2_1 : List UInt8 := [173, 22, 4, 173]
abbrev dktJ4_floorMod_2_1 : List UInt8 := dkwJ4_floorMod_2_1 ++ []
def dkwJ4_floorMod_2_0 : List UInt8 := [30, 32, 113, 55, 4, 30, 32, 131, 9, 148, 156, 0, 15, 22, 4, 9, 148, 153, 0, 8, 22, 4, 32, 97]
abbrev dktJ4_floorMod_2_0 : List UInt8 := dkwJ4_floorMod_2_0 ++ dktJ4_floorMod_2_1
theorem dksJ4_floorMod_2_0 : cJ4_floorMod_2.data.toList.drop 0 = dktJ4_floorMod_2_0 := by decide +kernel
theorem dksJ4_floorMod_2_1 : cJ4_floorMod_2.data.toList.drop 24 = dktJ4_floorMod_2_1 := dk_seg dksJ4_floorMod_2_0 24 rfl rfl
theorem dJ4_floorMod_2_0 : decode cJ4_floorMod_2 0 = .ok (.lload_n 0, 1) := dk_30 (dk_at dksJ4_floorMod_2_0 0 rfl rfl)
theorem dJ4_floorMod_2_1 : decode cJ4_floorMod_2 1 = .ok (.lload_n 2, 1) := dk_32 (dk_at dksJ4_floorMod_2_0 1 rfl rfl)
theorem dJ4_floorMod_2_2 : decode cJ4_floorMod_2 2 = .ok (.lrem, 1) := dk_113 (dk_at dksJ4_floorMod_2_0 2 rfl rfl)
theorem dJ4_floorMod_2_3 : decode cJ4_floorMod_2 3 = .ok (.lstore 4, 2) := dk_55 4 (dk_at dksJ4_floorMod_2_0 3 rfl rfl)
theorem dJ4_floorMod_2_5 : decode cJ4_floorMod_2 5 = .ok (.lload_n 0, 1) := dk_30 (dk_at dksJ4_floorMod_2_0 5 rfl rfl)
theorem dJ4_floorMod_2_6 : decode cJ4_floorMod_2 6 = .ok (.lload_n 2, 1) := dk_32 (dk_at dksJ4_floorMod_2_0 6 rfl rfl)
theorem dJ4_floorMod_2_7 : decode cJ4_floorMod_2 7 = .ok (.lxor, 1) := dk_131 (dk_at dksJ4_floorMod_2_0 7 rfl rfl)
theorem dJ4_floorMod_2_8 : decode cJ4_floorMod_2 8 = .ok (.lconst 0, 1) := dk_9 (dk_at dksJ4_floorMod_2_0 8 rfl rfl)
theorem dJ4_floorMod_2_9 : decode cJ4_floorMod_2 9 = .ok (.lcmp, 1) := dk_148 (dk_at dksJ4_floorMod_2_0 9 rfl rfl)
theorem dJ4_floorMod_2_10 : decode cJ4_floorMod_2 10 = .ok (.ifCond .ge 15, 3) := dk_156 0 15 (dk_at dksJ4_floorMod_2_0 10 rfl rfl)
theorem dJ4_floorMod_2_13 : decode cJ4_floorMod_2 13 = .ok (.lload 4, 2) := dk_22 4 (dk_at dksJ4_floorMod_2_0 13 rfl rfl)
theorem dJ4_floorMod_2_15 : decode cJ4_floorMod_2 15 = .ok (.lconst 0, 1) := dk_9 (dk_at dksJ4_floorMod_2_0 15 rfl rfl)
theorem dJ4_floorMod_2_16 : decode cJ4_floorMod_2 16 = .ok (.lcmp, 1) := dk_148 (dk_at dksJ4_floorMod_2_0 16 rfl rfl)
theorem dJ4_floorMod_2_17 : decode cJ4_floorMod_2 17 = .ok (.ifCond .eq 8, 3) := dk_153 0 8 (dk_at dksJ4_floorMod_2_0 17 rfl rfl)
theorem dJ4_floorMod_2_20 : decode cJ4_floorMod_2 20 = .ok (.lload 4, 2) := dk_22 4 (dk_at dksJ4_floorMod_2_0 20 rfl rfl)
theorem dJ4_floorMod_2_22 : decode cJ4_floorMod_2 22 = .ok (.lload_n 2, 1) := dk_32 (dk_at dksJ4_floorMod_2_0 22 rfl rfl)
theorem dJ4_floorMod_2_23 : decode cJ4_floorMod_2 23 = .ok (.ladd, 1) := dk_97 (dk_at dksJ4_floorMod_2_0 23 rfl rfl)
theorem dJ4_floorMod_2_24 : decode cJ4_floorMod_2 24 = .ok (.lreturn, 1) := dk_173 (dk_at dksJ4_floorMod_2_1 0 rfl rfl)
theorem dJ4_floorMod_2_25 : decode cJ4_floorMod_2 25 = .ok (.lload 4, 2) := dk_22 4 (dk_at dksJ4_floorMod_2_1 1 rfl rfl)
theorem dJ4_floorMod_2_27 : decode cJ4_floorMod_2 27 = .ok (.lreturn, 1) := dk_173 (dk_at dksJ4_floorMod_2_1 3 rfl rfl)
abbrev cJ4_min : ByteArray := prog_35_method_69_code
def yJ4_min : MethodName := ⟨RJ4, "min", "(II)I"⟩
def dkwJ4_min_0 : List UInt8 := [26, 27, 163, 0, 7, 26, 167, 0, 4, 27, 172]
abbrev dktJ4_min_0 : List UInt8 := dkwJ4_min_0 ++ []
theorem dksJ4_min_0 : cJ4_min.data.toList.drop 0 = dktJ4_min_0 := by decide +kernel
theorem dJ4_min_0 : decode cJ4_min 0 = .ok (.iload_n 0, 1) := dk_26 (dk_at dksJ4_min_0 0 rfl rfl)
theorem dJ4_min_1 : decode cJ4_min 1 = .ok (.iload_n 1, 1) := dk_27 (dk_at dksJ4_min_0 1 rfl rfl)
theorem dJ4_min_2 : decode cJ4_min 2 = .ok (.if_icmp .gt 7, 3) := dk_163 0 7 (dk_at dksJ4_min_0 2 rfl rfl)
theorem dJ4_min_5 : decode cJ4_min 5 = .ok (.iload_n 0, 1) := dk_26 (dk_at dksJ4_min_0 5 rfl rfl)
theorem dJ4_min_6 : decode cJ4_min 6 = .ok (.goto 4, 3) := dk_167 0 4 (dk_at dksJ4_min_0 6 rfl rfl)
theorem dJ4_min_9 : decode cJ4_min 9 = .ok (.iload_n 1, 1) := dk_27 (dk_at dksJ4_min_0 9 rfl rfl)
theorem dJ4_min_10 : decode cJ4_min 10 = .ok (.ireturn, 1) := dk_172 (dk_at dksJ4_min_0 10 rfl rfl)
abbrev cJ4_abs_2 : ByteArray := prog_35_method_59_code
def yJ4_abs_2 : MethodName := ⟨RJ4, "abs", "(I)I"⟩
def dkwJ4_abs_2_0 : List UInt8 := [26, 156, 0, 8, 26, 116, 167, 0, 4, 26, 172]
abbrev dktJ4_abs_2_0 : List UInt8 := dkwJ4_abs_2_0 ++ []
theorem dksJ4_abs_2_0 : cJ4_abs_2.data.toList.drop 0 = dktJ4_abs_2_0 := by decide +kernel
theorem dJ4_abs_2_0 : decode cJ4_abs_2 0 = .ok (.iload_n 0, 1) := dk_26 (dk_at dksJ4_abs_2_0 0 rfl rfl)
theorem dJ4_abs_2_1 : decode cJ4_abs_2 1 = .ok (.ifCond .ge 8, 3) := dk_156 0 8 (dk_at dksJ4_abs_2_0 1 rfl rfl)
theorem dJ4_abs_2_4 : decode cJ4_abs_2 4 = .ok (.iload_n 0, 1) := dk_26 (dk_at dksJ4_abs_2_0 4 rfl rfl)
theorem dJ4_abs_2_5 : decode cJ4_abs_2 5 = .ok (.ineg, 1) := dk_116 (dk_at dksJ4_abs_2_0 5 rfl rfl)
theorem dJ4_abs_2_6 : decode cJ4_abs_2 6 = .ok (.goto 4, 3) := dk_167 0 4 (dk_at dksJ4_abs_2_0 6 rfl rfl)
theorem dJ4_abs_2_9 : decode cJ4_abs_2 9 = .ok (.iload_n 0, 1) := dk_26 (dk_at dksJ4_abs_2_0 9 rfl rfl)
theorem dJ4_abs_2_10 : decode cJ4_abs_2 10 = .ok (.ireturn, 1) := dk_172 (dk_at dksJ4_abs_2_0 10 rfl rfl)
theorem q103 : (Jvm.Cond.initialized "java/lang/Math") ∈ lw_all := lw_g (lw_at lw_m1 16 rfl) rfl
theorem q600 : (Jvm.Cond.static ({ cls := "java/lang/Math", name := "max", desc := "(II)I" } : Jvm.MethodName)) ∈ lw_all := lw_g (lw_at lw_m3 33 rfl) rfl
theorem q601 : (Jvm.Cond.code ({ cls := "java/lang/Math", name := "max", desc := "(II)I" } : Jvm.MethodName) prog_35_method_65_code (2 : Nat) (Option.some Jvm.ClassFile.FieldType.int)) ∈ lw_all := lw_g (lw_at lw_m3 34 rfl) rfl
theorem q699 : (Jvm.Cond.static ({ cls := "java/lang/Math", name := "multiplyExact", desc := "(JJ)J" } : Jvm.MethodName)) ∈ lw_all := lw_g (lw_at lw_m3 132 rfl) rfl
theorem q700 : (Jvm.Cond.code ({ cls := "java/lang/Math", name := "multiplyExact", desc := "(JJ)J" } : Jvm.MethodName) prog_35_method_30_code (10 : Nat) (Option.some Jvm.ClassFile.FieldType.long)) ∈ lw_all := lw_g (lw_at lw_m3 133 rfl) rfl
theorem q701 : (Jvm.Cond.methodLink "java/lang/Math" (122 : Nat) ({ cls := "java/lang/Math", name := "abs", desc := "(J)J" } : Jvm.MethodName)) ∈ lw_all := lw_g (lw_at lw_m3 134 rfl) rfl
theorem q702 : (Jvm.Cond.static ({ cls := "java/lang/Math", name := "abs", desc := "(J)J" } : Jvm.MethodName)) ∈ lw_all := lw_g (lw_at lw_m3 135 rfl) rfl
theorem q703 : (Jvm.Cond.code ({ cls := "java/lang/Math", name := "abs", desc := "(J)J" } : Jvm.MethodName) prog_35_method_61_code (2 : Nat) (Option.some Jvm.ClassFile.FieldType.long)) ∈ lw_all := lw_g (lw_at lw_m3 136 rfl) rfl
theorem q704 : (Jvm.Cond.constantLong "java/lang/Math" (128 : Nat) (-9223372036854775808 : Int64)) ∈ lw_all := lw_g (lw_at lw_m3 137 rfl) rfl
theorem q705 : (Jvm.Cond.constantLong "java/lang/Math" (130 : Nat) (-1 : Int64)) ∈ lw_all := lw_g (lw_at lw_m3 138 rfl) rfl
theorem q706 : (Jvm.Cond.classLink "java/lang/Math" (109 : Nat) "java/lang/ArithmeticException") ∈ lw_all := lw_g (lw_at lw_m3 139 rfl) rfl
theorem q762 : (Jvm.Cond.stringRef "java/lang/Math" (116 : Nat) "long overflow") ∈ lw_tbl := lw_at lw_m3 195 rfl
theorem q763 : (Jvm.Cond.methodLink "java/lang/Math" (113 : Nat) ({ cls := "java/lang/ArithmeticException", name := "<init>", desc := "(Ljava/lang/String;)V" } : Jvm.MethodName)) ∈ lw_all := lw_g (lw_at lw_m3 196 rfl) rfl
theorem q789 : (Jvm.Cond.static ({ cls := "java/lang/Math", name := "addExact", desc := "(JJ)J" } : Jvm.MethodName)) ∈ lw_all := lw_g (lw_at lw_m3 222 rfl) rfl
theorem q790 : (Jvm.Cond.code ({ cls := "java/lang/Math", name := "addExact", desc := "(JJ)J" } : Jvm.MethodName) prog_35_method_25_code (6 : Nat) (Option.some Jvm.ClassFile.FieldType.long)) ∈ lw_all := lw_g (lw_at lw_m3 223 rfl) rfl
theorem q792 : (Jvm.Cond.static ({ cls := "java/lang/Math", name := "subtractExact", desc := "(JJ)J" } : Jvm.MethodName)) ∈ lw_all := lw_g (lw_at lw_m3 225 rfl) rfl
theorem q793 : (Jvm.Cond.code ({ cls := "java/lang/Math", name := "subtractExact", desc := "(JJ)J" } : Jvm.MethodName) prog_35_method_27_code (6 : Nat) (Option.some Jvm.ClassFile.FieldType.long)) ∈ lw_all := lw_g (lw_at lw_m3 226 rfl) rfl
theorem q808 : (Jvm.Cond.static ({ cls := "java/lang/Math", name := "toIntExact", desc := "(J)I" } : Jvm.MethodName)) ∈ lw_all := lw_g (lw_at lw_m4 1 rfl) rfl
theorem q809 : (Jvm.Cond.code ({ cls := "java/lang/Math", name := "toIntExact", desc := "(J)I" } : Jvm.MethodName) prog_35_method_43_code (2 : Nat) (Option.some Jvm.ClassFile.FieldType.int)) ∈ lw_all := lw_g (lw_at lw_m4 2 rfl) rfl
theorem q810 : (Jvm.Cond.stringRef "java/lang/Math" (111 : Nat) "integer overflow") ∈ lw_tbl := lw_at lw_m4 3 rfl
theorem q812 : (Jvm.Cond.static ({ cls := "java/lang/Math", name := "multiplyExact", desc := "(II)I" } : Jvm.MethodName)) ∈ lw_all := lw_g (lw_at lw_m4 5 rfl) rfl
theorem q813 : (Jvm.Cond.code ({ cls := "java/lang/Math", name := "multiplyExact", desc := "(II)I" } : Jvm.MethodName) prog_35_method_28_code (4 : Nat) (Option.some Jvm.ClassFile.FieldType.int)) ∈ lw_all := lw_g (lw_at lw_m4 6 rfl) rfl
theorem q869 : (Jvm.Cond.static ({ cls := "java/lang/Math", name := "floorMod", desc := "(II)I" } : Jvm.MethodName)) ∈ lw_all := lw_g (lw_at lw_m4 62 rfl) rfl
theorem q870 : (Jvm.Cond.code ({ cls := "java/lang/Math", name := "floorMod", desc := "(II)I" } : Jvm.MethodName) prog_35_method_50_code (3 : Nat) (Option.some Jvm.ClassFile.FieldType.int)) ∈ lw_all := lw_g (lw_at lw_m4 63 rfl) rfl
theorem q875 : (Jvm.Cond.static ({ cls := "java/lang/Math", name := "floorMod", desc := "(JJ)J" } : Jvm.MethodName)) ∈ lw_all := lw_g (lw_at lw_m4 68 rfl) rfl
theorem q876 : (Jvm.Cond.code ({ cls := "java/lang/Math", name := "floorMod", desc := "(JJ)J" } : Jvm.MethodName) prog_35_method_52_code (6 : Nat) (Option.some Jvm.ClassFile.FieldType.long)) ∈ lw_all := lw_g (lw_at lw_m4 69 rfl) rfl
theorem q1002 : (Jvm.Cond.static ({ cls := "java/lang/Math", name := "min", desc := "(II)I" } : Jvm.MethodName)) ∈ lw_all := lw_g (lw_at lw_m4 195 rfl) rfl
theorem q1003 : (Jvm.Cond.code ({ cls := "java/lang/Math", name := "min", desc := "(II)I" } : Jvm.MethodName) prog_35_method_69_code (2 : Nat) (Option.some Jvm.ClassFile.FieldType.int)) ∈ lw_all := lw_g (lw_at lw_m4 196 rfl) rfl
theorem q1220 : (Jvm.Cond.static ({ cls := "java/lang/Math", name := "abs", desc := "(I)I" } : Jvm.MethodName)) ∈ lw_all := lw_g (lw_at lw_m5 173 rfl) rfl
theorem q1221 : (Jvm.Cond.code ({ cls := "java/lang/Math", name := "abs", desc := "(I)I" } : Jvm.MethodName) prog_35_method_59_code (1 : Nat) (Option.some Jvm.ClassFile.FieldType.int)) ∈ lw_all := lw_g (lw_at lw_m5 174 rfl) rfl
/-! java/lang/Throwable -/
set_option maxRecDepth 100000
def RJ5 : String := "java/lang/Throwable"
def TJ5 : u_T := fun k => match k with
  | 0 => ("java/lang/Throwable", "cause", "Ljava/lang/Throwable;", false)
  | 1 => ("java/lang/Throwable", "stackTrace", "[Ljava/lang/StackTraceElement;", false)
  | 2 => ("java/lang/Throwable", "suppressedExceptions", "Ljava/util/List;", false)
  | 3 => ("java/lang/Throwable", "detailMessage", "Ljava/lang/String;", false)
  | _ => ("java/lang/Throwable", "backtrace", "Ljava/lang/Object;", false)
def tyJ5 : Nat → FieldType := fun k => match k with
  | 0 => .object "java/lang/Throwable"
  | 1 => .array (.object "java/lang/StackTraceElement")
  | 2 => .object "java/util/List"
  | 3 => .object "java/lang/String"
  | _ => .object "java/lang/Object"
abbrev wsJ50 : List Cond := u_ws RJ5 TJ5 5
theorem nmJ5 : ∀ a, a < 5 → ∀ b, b < 5 → a ≠ b → (TJ5 a).2.1 ≠ (TJ5 b).2.1 := by decide +kernel
theorem tyJ5_ok : ∀ k, k < 5 → parseFieldDescriptor (TJ5 k).2.2.1 = some (tyJ5 k) := by decide +kernel
abbrev cJ5_init : ByteArray := prog_41_method_1_code
def yJ5_init : MethodName := ⟨RJ5, "<init>", "()V"⟩
def dkwJ5_init_1 : List UInt8 := [182, 0, 27, 87, 177]
abbrev dktJ5_init_1 : List UInt8 := dkwJ5_init_1 ++ []
def dkwJ5_init_0 : List UInt8 := [42, 183, 0, 1, 42, 42, 181, 0, 7, 42, 178, 0, 13, 181, 0, 17, 42, 178, 0, 20, 181, 0, 24, 42]
abbrev dktJ5_init_0 : List UInt8 := dkwJ5_init_0 ++ dktJ5_init_1
theorem dksJ5_init_0 : cJ5_init.data.toList.drop 0 = dktJ5_init_0 := by decide +kernel
theorem dksJ5_init_1 : cJ5_init.data.toList.drop 24 = dktJ5_init_1 := dk_seg dksJ5_init_0 24 rfl rfl
theorem dJ5_init_0 : decode cJ5_init 0 = .ok (.aload_n 0, 1) := dk_42 (dk_at dksJ5_init_0 0 rfl rfl)
theorem dJ5_init_1 : decode cJ5_init 1 = .ok (.invokespecial 1, 3) := dk_183 0 1 (dk_at dksJ5_init_0 1 rfl rfl)
theorem dJ5_init_4 : decode cJ5_init 4 = .ok (.aload_n 0, 1) := dk_42 (dk_at dksJ5_init_0 4 rfl rfl)
theorem dJ5_init_5 : decode cJ5_init 5 = .ok (.aload_n 0, 1) := dk_42 (dk_at dksJ5_init_0 5 rfl rfl)
theorem dJ5_init_6 : decode cJ5_init 6 = .ok (.putfield 7, 3) := dk_181 0 7 (dk_at dksJ5_init_0 6 rfl rfl)
theorem dJ5_init_9 : decode cJ5_init 9 = .ok (.aload_n 0, 1) := dk_42 (dk_at dksJ5_init_0 9 rfl rfl)
theorem dJ5_init_10 : decode cJ5_init 10 = .ok (.getstatic 13, 3) := dk_178 0 13 (dk_at dksJ5_init_0 10 rfl rfl)
theorem dJ5_init_13 : decode cJ5_init 13 = .ok (.putfield 17, 3) := dk_181 0 17 (dk_at dksJ5_init_0 13 rfl rfl)
theorem dJ5_init_16 : decode cJ5_init 16 = .ok (.aload_n 0, 1) := dk_42 (dk_at dksJ5_init_0 16 rfl rfl)
theorem dJ5_init_17 : decode cJ5_init 17 = .ok (.getstatic 20, 3) := dk_178 0 20 (dk_at dksJ5_init_0 17 rfl rfl)
theorem dJ5_init_20 : decode cJ5_init 20 = .ok (.putfield 24, 3) := dk_181 0 24 (dk_at dksJ5_init_0 20 rfl rfl)
theorem dJ5_init_23 : decode cJ5_init 23 = .ok (.aload_n 0, 1) := dk_42 (dk_at dksJ5_init_0 23 rfl rfl)
theorem dJ5_init_24 : decode cJ5_init 24 = .ok (.invokevirtual 27, 3) := dk_182 0 27 (dk_at dksJ5_init_1 0 rfl rfl)
theorem dJ5_init_27 : decode cJ5_init 27 = .ok (.pop, 1) := dk_87 (dk_at dksJ5_init_1 3 rfl rfl)
theorem dJ5_init_28 : decode cJ5_init 28 = .ok (.return_, 1) := dk_177 (dk_at dksJ5_init_1 4 rfl rfl)
abbrev cJ5_init_2 : ByteArray := prog_41_method_2_code
def yJ5_init_2 : MethodName := ⟨RJ5, "<init>", "(Ljava/lang/String;)V"⟩
def dkwJ5_init_2_1 : List UInt8 := [182, 0, 27, 87, 42, 43, 181, 0, 31, 177]
abbrev dktJ5_init_2_1 : List UInt8 := dkwJ5_init_2_1 ++ []
def dkwJ5_init_2_0 : List UInt8 := [42, 183, 0, 1, 42, 42, 181, 0, 7, 42, 178, 0, 13, 181, 0, 17, 42, 178, 0, 20, 181, 0, 24, 42]
abbrev dktJ5_init_2_0 : List UInt8 := dkwJ5_init_2_0 ++ dktJ5_init_2_1
theorem dksJ5_init_2_0 : cJ5_init_2.data.toList.drop 0 = dktJ5_init_2_0 := by decide +kernel
theorem dksJ5_init_2_1 : cJ5_init_2.data.toList.drop 24 = dktJ5_init_2_1 := dk_seg dksJ5_init_2_0 24 rfl rfl
theorem dJ5_init_2_0 : decode cJ5_init_2 0 = .ok (.aload_n 0, 1) := dk_42 (dk_at dksJ5_init_2_0 0 rfl rfl)
theorem dJ5_init_2_1 : decode cJ5_init_2 1 = .ok (.invokespecial 1, 3) := dk_183 0 1 (dk_at dksJ5_init_2_0 1 rfl rfl)
theorem dJ5_init_2_4 : decode cJ5_init_2 4 = .ok (.aload_n 0, 1) := dk_42 (dk_at dksJ5_init_2_0 4 rfl rfl)
theorem dJ5_init_2_5 : decode cJ5_init_2 5 = .ok (.aload_n 0, 1) := dk_42 (dk_at dksJ5_init_2_0 5 rfl rfl)
theorem dJ5_init_2_6 : decode cJ5_init_2 6 = .ok (.putfield 7, 3) := dk_181 0 7 (dk_at dksJ5_init_2_0 6 rfl rfl)
theorem dJ5_init_2_9 : decode cJ5_init_2 9 = .ok (.aload_n 0, 1) := dk_42 (dk_at dksJ5_init_2_0 9 rfl rfl)
theorem dJ5_init_2_10 : decode cJ5_init_2 10 = .ok (.getstatic 13, 3) := dk_178 0 13 (dk_at dksJ5_init_2_0 10 rfl rfl)
theorem dJ5_init_2_13 : decode cJ5_init_2 13 = .ok (.putfield 17, 3) := dk_181 0 17 (dk_at dksJ5_init_2_0 13 rfl rfl)
theorem dJ5_init_2_16 : decode cJ5_init_2 16 = .ok (.aload_n 0, 1) := dk_42 (dk_at dksJ5_init_2_0 16 rfl rfl)
theorem dJ5_init_2_17 : decode cJ5_init_2 17 = .ok (.getstatic 20, 3) := dk_178 0 20 (dk_at dksJ5_init_2_0 17 rfl rfl)
theorem dJ5_init_2_20 : decode cJ5_init_2 20 = .ok (.putfield 24, 3) := dk_181 0 24 (dk_at dksJ5_init_2_0 20 rfl rfl)
theorem dJ5_init_2_23 : decode cJ5_init_2 23 = .ok (.aload_n 0, 1) := dk_42 (dk_at dksJ5_init_2_0 23 rfl rfl)
theorem dJ5_init_2_24 : decode cJ5_init_2 24 = .ok (.invokevirtual 27, 3) := dk_182 0 27 (dk_at dksJ5_init_2_1 0 rfl rfl)
theorem dJ5_init_2_27 : decode cJ5_init_2 27 = .ok (.pop, 1) := dk_87 (dk_at dksJ5_init_2_1 3 rfl rfl)
theorem dJ5_init_2_28 : decode cJ5_init_2 28 = .ok (.aload_n 0, 1) := dk_42 (dk_at dksJ5_init_2_1 4 rfl rfl)
theorem dJ5_init_2_29 : decode cJ5_init_2 29 = .ok (.aload_n 1, 1) := dk_43 (dk_at dksJ5_init_2_1 5 rfl rfl)
theorem dJ5_init_2_30 : decode cJ5_init_2 30 = .ok (.putfield 31, 3) := dk_181 0 31 (dk_at dksJ5_init_2_1 6 rfl rfl)
theorem dJ5_init_2_33 : decode cJ5_init_2 33 = .ok (.return_, 1) := dk_177 (dk_at dksJ5_init_2_1 9 rfl rfl)
abbrev cJ5_init_3 : ByteArray := prog_41_method_5_code
def yJ5_init_3 : MethodName := ⟨RJ5, "<init>", "(Ljava/lang/String;Ljava/lang/Throwable;ZZ)V"⟩
def dkwJ5_init_3_2 : List UInt8 := [44, 181, 0, 7, 29, 154, 0, 8, 42, 1, 181, 0, 24, 177]
abbrev dktJ5_init_3_2 : List UInt8 := dkwJ5_init_3_2 ++ []
def dkwJ5_init_3_1 : List UInt8 := [21, 4, 153, 0, 11, 42, 182, 0, 27, 87, 167, 0, 8, 42, 1, 181, 0, 17, 42, 43, 181, 0, 31, 42]
abbrev dktJ5_init_3_1 : List UInt8 := dkwJ5_init_3_1 ++ dktJ5_init_3_2
def dkwJ5_init_3_0 : List UInt8 := [42, 183, 0, 1, 42, 42, 181, 0, 7, 42, 178, 0, 13, 181, 0, 17, 42, 178, 0, 20, 181, 0, 24]
abbrev dktJ5_init_3_0 : List UInt8 := dkwJ5_init_3_0 ++ dktJ5_init_3_1
theorem dksJ5_init_3_0 : cJ5_init_3.data.toList.drop 0 = dktJ5_init_3_0 := by decide +kernel
theorem dksJ5_init_3_1 : cJ5_init_3.data.toList.drop 23 = dktJ5_init_3_1 := dk_seg dksJ5_init_3_0 23 rfl rfl
theorem dksJ5_init_3_2 : cJ5_init_3.data.toList.drop 47 = dktJ5_init_3_2 := dk_seg dksJ5_init_3_1 24 rfl rfl
theorem dJ5_init_3_0 : decode cJ5_init_3 0 = .ok (.aload_n 0, 1) := dk_42 (dk_at dksJ5_init_3_0 0 rfl rfl)
theorem dJ5_init_3_1 : decode cJ5_init_3 1 = .ok (.invokespecial 1, 3) := dk_183 0 1 (dk_at dksJ5_init_3_0 1 rfl rfl)
theorem dJ5_init_3_4 : decode cJ5_init_3 4 = .ok (.aload_n 0, 1) := dk_42 (dk_at dksJ5_init_3_0 4 rfl rfl)
theorem dJ5_init_3_5 : decode cJ5_init_3 5 = .ok (.aload_n 0, 1) := dk_42 (dk_at dksJ5_init_3_0 5 rfl rfl)
theorem dJ5_init_3_6 : decode cJ5_init_3 6 = .ok (.putfield 7, 3) := dk_181 0 7 (dk_at dksJ5_init_3_0 6 rfl rfl)
theorem dJ5_init_3_9 : decode cJ5_init_3 9 = .ok (.aload_n 0, 1) := dk_42 (dk_at dksJ5_init_3_0 9 rfl rfl)
theorem dJ5_init_3_10 : decode cJ5_init_3 10 = .ok (.getstatic 13, 3) := dk_178 0 13 (dk_at dksJ5_init_3_0 10 rfl rfl)
theorem dJ5_init_3_13 : decode cJ5_init_3 13 = .ok (.putfield 17, 3) := dk_181 0 17 (dk_at dksJ5_init_3_0 13 rfl rfl)
theorem dJ5_init_3_16 : decode cJ5_init_3 16 = .ok (.aload_n 0, 1) := dk_42 (dk_at dksJ5_init_3_0 16 rfl rfl)
theorem dJ5_init_3_17 : decode cJ5_init_3 17 = .ok (.getstatic 20, 3) := dk_178 0 20 (dk_at dksJ5_init_3_0 17 rfl rfl)
theorem dJ5_init_3_20 : decode cJ5_init_3 20 = .ok (.putfield 24, 3) := dk_181 0 24 (dk_at dksJ5_init_3_0 20 rfl rfl)
theorem dJ5_init_3_23 : decode cJ5_init_3 23 = .ok (.iload 4, 2) := dk_21 4 (dk_at dksJ5_init_3_1 0 rfl rfl)
theorem dJ5_init_3_25 : decode cJ5_init_3 25 = .ok (.ifCond .eq 11, 3) := dk_153 0 11 (dk_at dksJ5_init_3_1 2 rfl rfl)
theorem dJ5_init_3_28 : decode cJ5_init_3 28 = .ok (.aload_n 0, 1) := dk_42 (dk_at dksJ5_init_3_1 5 rfl rfl)
theorem dJ5_init_3_29 : decode cJ5_init_3 29 = .ok (.invokevirtual 27, 3) := dk_182 0 27 (dk_at dksJ5_init_3_1 6 rfl rfl)
theorem dJ5_init_3_32 : decode cJ5_init_3 32 = .ok (.pop, 1) := dk_87 (dk_at dksJ5_init_3_1 9 rfl rfl)
theorem dJ5_init_3_33 : decode cJ5_init_3 33 = .ok (.goto 8, 3) := dk_167 0 8 (dk_at dksJ5_init_3_1 10 rfl rfl)
theorem dJ5_init_3_36 : decode cJ5_init_3 36 = .ok (.aload_n 0, 1) := dk_42 (dk_at dksJ5_init_3_1 13 rfl rfl)
theorem dJ5_init_3_37 : decode cJ5_init_3 37 = .ok (.aconst_null, 1) := dk_1 (dk_at dksJ5_init_3_1 14 rfl rfl)
theorem dJ5_init_3_38 : decode cJ5_init_3 38 = .ok (.putfield 17, 3) := dk_181 0 17 (dk_at dksJ5_init_3_1 15 rfl rfl)
theorem dJ5_init_3_41 : decode cJ5_init_3 41 = .ok (.aload_n 0, 1) := dk_42 (dk_at dksJ5_init_3_1 18 rfl rfl)
theorem dJ5_init_3_42 : decode cJ5_init_3 42 = .ok (.aload_n 1, 1) := dk_43 (dk_at dksJ5_init_3_1 19 rfl rfl)
theorem dJ5_init_3_43 : decode cJ5_init_3 43 = .ok (.putfield 31, 3) := dk_181 0 31 (dk_at dksJ5_init_3_1 20 rfl rfl)
theorem dJ5_init_3_46 : decode cJ5_init_3 46 = .ok (.aload_n 0, 1) := dk_42 (dk_at dksJ5_init_3_1 23 rfl rfl)
theorem dJ5_init_3_47 : decode cJ5_init_3 47 = .ok (.aload_n 2, 1) := dk_44 (dk_at dksJ5_init_3_2 0 rfl rfl)
theorem dJ5_init_3_48 : decode cJ5_init_3 48 = .ok (.putfield 7, 3) := dk_181 0 7 (dk_at dksJ5_init_3_2 1 rfl rfl)
theorem dJ5_init_3_51 : decode cJ5_init_3 51 = .ok (.iload_n 3, 1) := dk_29 (dk_at dksJ5_init_3_2 4 rfl rfl)
theorem dJ5_init_3_52 : decode cJ5_init_3 52 = .ok (.ifCond .ne 8, 3) := dk_154 0 8 (dk_at dksJ5_init_3_2 5 rfl rfl)
theorem dJ5_init_3_55 : decode cJ5_init_3 55 = .ok (.aload_n 0, 1) := dk_42 (dk_at dksJ5_init_3_2 8 rfl rfl)
theorem dJ5_init_3_56 : decode cJ5_init_3 56 = .ok (.aconst_null, 1) := dk_1 (dk_at dksJ5_init_3_2 9 rfl rfl)
theorem dJ5_init_3_57 : decode cJ5_init_3 57 = .ok (.putfield 24, 3) := dk_181 0 24 (dk_at dksJ5_init_3_2 10 rfl rfl)
theorem dJ5_init_3_60 : decode cJ5_init_3 60 = .ok (.return_, 1) := dk_177 (dk_at dksJ5_init_3_2 13 rfl rfl)
theorem q104 : (Jvm.Cond.initialized "java/lang/Throwable") ∈ lw_all := lw_g (lw_at lw_m1 17 rfl) rfl
theorem q713 : (Jvm.Cond.declares ({ cls := "java/lang/Throwable", name := "<init>", desc := "()V" } : Jvm.MethodName)) ∈ lw_tbl := lw_at lw_m3 146 rfl
theorem q714 : (Jvm.Cond.declares ({ cls := "java/lang/Throwable", name := "<init>", desc := "(Ljava/lang/String;)V" } : Jvm.MethodName)) ∈ lw_tbl := lw_at lw_m3 147 rfl
theorem q718 : (Jvm.Cond.lays "java/lang/Throwable" "java/lang/Throwable" "cause" "Ljava/lang/Throwable;") ∈ lw_all := lw_g (lw_at lw_m3 151 rfl) rfl
theorem q720 : (Jvm.Cond.lays "java/lang/Throwable" "java/lang/Throwable" "stackTrace" "[Ljava/lang/StackTraceElement;") ∈ lw_all := lw_g (lw_at lw_m3 153 rfl) rfl
theorem q722 : (Jvm.Cond.lays "java/lang/Throwable" "java/lang/Throwable" "suppressedExceptions" "Ljava/util/List;") ∈ lw_all := lw_g (lw_at lw_m3 155 rfl) rfl
theorem q724 : (Jvm.Cond.lays "java/lang/Throwable" "java/lang/Throwable" "detailMessage" "Ljava/lang/String;") ∈ lw_all := lw_g (lw_at lw_m3 157 rfl) rfl
theorem q726 : (Jvm.Cond.lays "java/lang/Throwable" "java/lang/Throwable" "backtrace" "Ljava/lang/Object;") ∈ lw_all := lw_g (lw_at lw_m3 159 rfl) rfl
theorem q727 : (Jvm.Cond.fieldLink "java/lang/Throwable" (198 : Nat) "java/lang/Throwable" "backtrace" "Ljava/lang/Object;") ∈ lw_all := lw_g (lw_at lw_m3 160 rfl) rfl
theorem q728 : (Jvm.Cond.superclass "java/lang/Throwable" "java/lang/Object") ∈ lw_all := lw_g (lw_at lw_m3 161 rfl) rfl
theorem q729 : (Jvm.Cond.instanceMethod ({ cls := "java/lang/Throwable", name := "<init>", desc := "()V" } : Jvm.MethodName)) ∈ lw_all := lw_g (lw_at lw_m3 162 rfl) rfl
theorem q730 : (Jvm.Cond.code ({ cls := "java/lang/Throwable", name := "<init>", desc := "()V" } : Jvm.MethodName) prog_41_method_1_code (1 : Nat) (Option.none : Option Jvm.ClassFile.FieldType)) ∈ lw_all := lw_g (lw_at lw_m3 163 rfl) rfl
theorem q731 : (Jvm.Cond.methodLink "java/lang/Throwable" (1 : Nat) ({ cls := "java/lang/Object", name := "<init>", desc := "()V" } : Jvm.MethodName)) ∈ lw_all := lw_g (lw_at lw_m3 164 rfl) rfl
theorem q732 : (Jvm.Cond.fieldLink "java/lang/Throwable" (13 : Nat) "java/lang/Throwable" "UNASSIGNED_STACK" "[Ljava/lang/StackTraceElement;") ∈ lw_all := lw_g (lw_at lw_m3 165 rfl) rfl
theorem q733 : (Jvm.Cond.laysStatic "java/lang/Throwable" "UNASSIGNED_STACK" "[Ljava/lang/StackTraceElement;") ∈ lw_tbl := lw_at lw_m3 166 rfl
theorem q734 : (Jvm.Cond.fieldLink "java/lang/Throwable" (20 : Nat) "java/lang/Throwable" "SUPPRESSED_SENTINEL" "Ljava/util/List;") ∈ lw_all := lw_g (lw_at lw_m3 167 rfl) rfl
theorem q735 : (Jvm.Cond.laysStatic "java/lang/Throwable" "SUPPRESSED_SENTINEL" "Ljava/util/List;") ∈ lw_tbl := lw_at lw_m3 168 rfl
theorem q736 : (Jvm.Cond.methodLink "java/lang/Throwable" (27 : Nat) ({ cls := "java/lang/Throwable", name := "fillInStackTrace", desc := "()Ljava/lang/Throwable;" } : Jvm.MethodName)) ∈ lw_all := lw_g (lw_at lw_m3 169 rfl) rfl
theorem q737 : (Jvm.Cond.instanceMethod ({ cls := "java/lang/Throwable", name := "fillInStackTrace", desc := "()Ljava/lang/Throwable;" } : Jvm.MethodName)) ∈ lw_all := lw_g (lw_at lw_m3 170 rfl) rfl
theorem q738 : (Jvm.Cond.sameMethod "java/lang/Throwable" "java/lang/Throwable" "fillInStackTrace" "()Ljava/lang/Throwable;") ∈ lw_all := lw_g (lw_at lw_m3 171 rfl) rfl
theorem q752 : (Jvm.Cond.declares ({ cls := "java/lang/Throwable", name := "fillInStackTrace", desc := "()Ljava/lang/Throwable;" } : Jvm.MethodName)) ∈ lw_tbl := lw_at lw_m3 185 rfl
theorem q756 : (Jvm.Cond.codeSync ({ cls := "java/lang/Throwable", name := "fillInStackTrace", desc := "()Ljava/lang/Throwable;" } : Jvm.MethodName) prog_41_method_18_code (1 : Nat) (Option.some (Jvm.ClassFile.FieldType.object "java/lang/Throwable"))) ∈ lw_all := lw_g (lw_at lw_m3 189 rfl) rfl
theorem q757 : (Jvm.Cond.methodLink "java/lang/Throwable" (202 : Nat) ({ cls := "java/lang/Throwable", name := "fillInStackTrace", desc := "(I)Ljava/lang/Throwable;" } : Jvm.MethodName)) ∈ lw_all := lw_g (lw_at lw_m3 190 rfl) rfl
theorem q758 : (Jvm.Cond.privateMethod ({ cls := "java/lang/Throwable", name := "fillInStackTrace", desc := "(I)Ljava/lang/Throwable;" } : Jvm.MethodName)) ∈ lw_tbl := lw_at lw_m3 191 rfl
theorem q759 : (Jvm.Cond.instanceMethod ({ cls := "java/lang/Throwable", name := "fillInStackTrace", desc := "(I)Ljava/lang/Throwable;" } : Jvm.MethodName)) ∈ lw_all := lw_g (lw_at lw_m3 192 rfl) rfl
theorem q760 : (Jvm.Cond.instantiable "java/lang/Throwable" (6 : Nat)) ∈ lw_all := lw_g (lw_at lw_m3 193 rfl) rfl
theorem q761 : (Jvm.Cond.native ({ cls := "java/lang/Throwable", name := "fillInStackTrace", desc := "(I)Ljava/lang/Throwable;" } : Jvm.MethodName)) ∈ lw_all := lw_g (lw_at lw_m3 194 rfl) rfl
theorem q773 : (Jvm.Cond.instanceMethod ({ cls := "java/lang/Throwable", name := "<init>", desc := "(Ljava/lang/String;)V" } : Jvm.MethodName)) ∈ lw_all := lw_g (lw_at lw_m3 206 rfl) rfl
theorem q774 : (Jvm.Cond.code ({ cls := "java/lang/Throwable", name := "<init>", desc := "(Ljava/lang/String;)V" } : Jvm.MethodName) prog_41_method_2_code (2 : Nat) (Option.none : Option Jvm.ClassFile.FieldType)) ∈ lw_all := lw_g (lw_at lw_m3 207 rfl) rfl
theorem q775 : (Jvm.Cond.fieldLink "java/lang/Throwable" (198 : Nat) "java/lang/Throwable" "backtrace" "Ljava/lang/Object;") ∈ lw_all := lw_g (lw_at lw_m3 208 rfl) rfl
theorem q776 : (Jvm.Cond.fieldLink "java/lang/Throwable" (31 : Nat) "java/lang/Throwable" "detailMessage" "Ljava/lang/String;") ∈ lw_all := lw_g (lw_at lw_m3 209 rfl) rfl
theorem q777 : (Jvm.Cond.fieldLink "java/lang/Throwable" (7 : Nat) "java/lang/Throwable" "cause" "Ljava/lang/Throwable;") ∈ lw_all := lw_g (lw_at lw_m3 210 rfl) rfl
theorem q778 : (Jvm.Cond.fieldLink "java/lang/Throwable" (17 : Nat) "java/lang/Throwable" "stackTrace" "[Ljava/lang/StackTraceElement;") ∈ lw_all := lw_g (lw_at lw_m3 211 rfl) rfl
theorem q779 : (Jvm.Cond.fieldLink "java/lang/Throwable" (24 : Nat) "java/lang/Throwable" "suppressedExceptions" "Ljava/util/List;") ∈ lw_all := lw_g (lw_at lw_m3 212 rfl) rfl
theorem q780 : (Jvm.Cond.soleField "java/lang/Throwable" "backtrace") ∈ lw_all := lw_g (lw_at lw_m3 213 rfl) rfl
theorem q781 : (Jvm.Cond.soleField "java/lang/Throwable" "detailMessage") ∈ lw_all := lw_g (lw_at lw_m3 214 rfl) rfl
theorem q782 : (Jvm.Cond.soleField "java/lang/Throwable" "cause") ∈ lw_all := lw_g (lw_at lw_m3 215 rfl) rfl
theorem q783 : (Jvm.Cond.soleField "java/lang/Throwable" "stackTrace") ∈ lw_all := lw_g (lw_at lw_m3 216 rfl) rfl
theorem q785 : (Jvm.Cond.soleField "java/lang/Throwable" "depth") ∈ lw_all := lw_g (lw_at lw_m3 218 rfl) rfl
theorem q786 : (Jvm.Cond.soleField "java/lang/Throwable" "suppressedExceptions") ∈ lw_all := lw_g (lw_at lw_m3 219 rfl) rfl
theorem q1029 : (Jvm.Cond.instanceMethod ({ cls := "java/lang/Throwable", name := "<init>", desc := "(Ljava/lang/String;Ljava/lang/Throwable;ZZ)V" } : Jvm.MethodName)) ∈ lw_all := lw_g (lw_at lw_m4 222 rfl) rfl
theorem q1030 : (Jvm.Cond.code ({ cls := "java/lang/Throwable", name := "<init>", desc := "(Ljava/lang/String;Ljava/lang/Throwable;ZZ)V" } : Jvm.MethodName) prog_41_method_5_code (5 : Nat) (Option.none : Option Jvm.ClassFile.FieldType)) ∈ lw_all := lw_g (lw_at lw_m4 223 rfl) rfl
theorem q2527 : (Jvm.Cond.sameMethod "java/lang/Throwable" "java/lang/Throwable" "fillInStackTrace" "(I)Ljava/lang/Throwable;") ∈ lw_all := lw_g (lw_at lw_m11 40 rfl) rfl
theorem q2578 : (Jvm.Cond.castable "java/lang/Throwable" "java/lang/Object") ∈ lw_tbl := lw_at lw_m11 91 rfl
theorem in_J5 : ∀ w ∈ wsJ50, w ∈ lw_all := lw_in wsJ50 [718, 720, 722, 724, 726] (by decide +kernel) (by decide +kernel)
/-! java/lang/Exception -/
set_option maxRecDepth 100000
def RJ6 : String := "java/lang/Exception"
abbrev cJ6_init : ByteArray := prog_31_method_2_code
def yJ6_init : MethodName := ⟨RJ6, "<init>", "(Ljava/lang/String;)V"⟩
def dkwJ6_init_0 : List UInt8 := [42, 43, 183, 0, 7, 177]
abbrev dktJ6_init_0 : List UInt8 := dkwJ6_init_0 ++ []
theorem dksJ6_init_0 : cJ6_init.data.toList.drop 0 = dktJ6_init_0 := by decide +kernel
theorem dJ6_init_0 : decode cJ6_init 0 = .ok (.aload_n 0, 1) := dk_42 (dk_at dksJ6_init_0 0 rfl rfl)
theorem dJ6_init_1 : decode cJ6_init 1 = .ok (.aload_n 1, 1) := dk_43 (dk_at dksJ6_init_0 1 rfl rfl)
theorem dJ6_init_2 : decode cJ6_init 2 = .ok (.invokespecial 7, 3) := dk_183 0 7 (dk_at dksJ6_init_0 2 rfl rfl)
theorem dJ6_init_5 : decode cJ6_init 5 = .ok (.return_, 1) := dk_177 (dk_at dksJ6_init_0 5 rfl rfl)
abbrev cJ6_init_2 : ByteArray := prog_31_method_5_code
def yJ6_init_2 : MethodName := ⟨RJ6, "<init>", "(Ljava/lang/String;Ljava/lang/Throwable;ZZ)V"⟩
def dkwJ6_init_2_0 : List UInt8 := [42, 43, 44, 29, 21, 4, 183, 0, 16, 177]
abbrev dktJ6_init_2_0 : List UInt8 := dkwJ6_init_2_0 ++ []
theorem dksJ6_init_2_0 : cJ6_init_2.data.toList.drop 0 = dktJ6_init_2_0 := by decide +kernel
theorem dJ6_init_2_0 : decode cJ6_init_2 0 = .ok (.aload_n 0, 1) := dk_42 (dk_at dksJ6_init_2_0 0 rfl rfl)
theorem dJ6_init_2_1 : decode cJ6_init_2 1 = .ok (.aload_n 1, 1) := dk_43 (dk_at dksJ6_init_2_0 1 rfl rfl)
theorem dJ6_init_2_2 : decode cJ6_init_2 2 = .ok (.aload_n 2, 1) := dk_44 (dk_at dksJ6_init_2_0 2 rfl rfl)
theorem dJ6_init_2_3 : decode cJ6_init_2 3 = .ok (.iload_n 3, 1) := dk_29 (dk_at dksJ6_init_2_0 3 rfl rfl)
theorem dJ6_init_2_4 : decode cJ6_init_2 4 = .ok (.iload 4, 2) := dk_21 4 (dk_at dksJ6_init_2_0 4 rfl rfl)
theorem dJ6_init_2_6 : decode cJ6_init_2 6 = .ok (.invokespecial 16, 3) := dk_183 0 16 (dk_at dksJ6_init_2_0 6 rfl rfl)
theorem dJ6_init_2_9 : decode cJ6_init_2 9 = .ok (.return_, 1) := dk_177 (dk_at dksJ6_init_2_0 9 rfl rfl)
abbrev cJ6_init_3 : ByteArray := prog_31_method_1_code
def yJ6_init_3 : MethodName := ⟨RJ6, "<init>", "()V"⟩
theorem dJ6_init_3_0 : decode cJ6_init_3 0 = .ok (.aload_n 0, 1) := by decide +kernel
theorem dJ6_init_3_1 : decode cJ6_init_3 1 = .ok (.invokespecial 1, 3) := by decide +kernel
theorem dJ6_init_3_4 : decode cJ6_init_3 4 = .ok (.return_, 1) := by decide +kernel
theorem q105 : (Jvm.Cond.initialized "java/lang/Exception") ∈ lw_all := lw_g (lw_at lw_m1 18 rfl) rfl
theorem q711 : (Jvm.Cond.declares ({ cls := "java/lang/Exception", name := "<init>", desc := "()V" } : Jvm.MethodName)) ∈ lw_tbl := lw_at lw_m3 144 rfl
theorem q712 : (Jvm.Cond.declares ({ cls := "java/lang/Exception", name := "<init>", desc := "(Ljava/lang/String;)V" } : Jvm.MethodName)) ∈ lw_tbl := lw_at lw_m3 145 rfl
theorem q755 : (Jvm.Cond.superclass "java/lang/Exception" "java/lang/Throwable") ∈ lw_all := lw_g (lw_at lw_m3 188 rfl) rfl
theorem q770 : (Jvm.Cond.instanceMethod ({ cls := "java/lang/Exception", name := "<init>", desc := "(Ljava/lang/String;)V" } : Jvm.MethodName)) ∈ lw_all := lw_g (lw_at lw_m3 203 rfl) rfl
theorem q771 : (Jvm.Cond.code ({ cls := "java/lang/Exception", name := "<init>", desc := "(Ljava/lang/String;)V" } : Jvm.MethodName) prog_31_method_2_code (2 : Nat) (Option.none : Option Jvm.ClassFile.FieldType)) ∈ lw_all := lw_g (lw_at lw_m3 204 rfl) rfl
theorem q772 : (Jvm.Cond.methodLink "java/lang/Exception" (7 : Nat) ({ cls := "java/lang/Throwable", name := "<init>", desc := "(Ljava/lang/String;)V" } : Jvm.MethodName)) ∈ lw_all := lw_g (lw_at lw_m3 205 rfl) rfl
theorem q1026 : (Jvm.Cond.instanceMethod ({ cls := "java/lang/Exception", name := "<init>", desc := "(Ljava/lang/String;Ljava/lang/Throwable;ZZ)V" } : Jvm.MethodName)) ∈ lw_all := lw_g (lw_at lw_m4 219 rfl) rfl
theorem q1027 : (Jvm.Cond.code ({ cls := "java/lang/Exception", name := "<init>", desc := "(Ljava/lang/String;Ljava/lang/Throwable;ZZ)V" } : Jvm.MethodName) prog_31_method_5_code (5 : Nat) (Option.none : Option Jvm.ClassFile.FieldType)) ∈ lw_all := lw_g (lw_at lw_m4 220 rfl) rfl
theorem q1028 : (Jvm.Cond.methodLink "java/lang/Exception" (16 : Nat) ({ cls := "java/lang/Throwable", name := "<init>", desc := "(Ljava/lang/String;Ljava/lang/Throwable;ZZ)V" } : Jvm.MethodName)) ∈ lw_all := lw_g (lw_at lw_m4 221 rfl) rfl
theorem q1081 : (Jvm.Cond.instanceMethod ({ cls := "java/lang/Exception", name := "<init>", desc := "()V" } : Jvm.MethodName)) ∈ lw_all := lw_g (lw_at lw_m5 34 rfl) rfl
theorem q1082 : (Jvm.Cond.code ({ cls := "java/lang/Exception", name := "<init>", desc := "()V" } : Jvm.MethodName) prog_31_method_1_code (1 : Nat) (Option.none : Option Jvm.ClassFile.FieldType)) ∈ lw_all := lw_g (lw_at lw_m5 35 rfl) rfl
theorem q1083 : (Jvm.Cond.methodLink "java/lang/Exception" (1 : Nat) ({ cls := "java/lang/Throwable", name := "<init>", desc := "()V" } : Jvm.MethodName)) ∈ lw_all := lw_g (lw_at lw_m5 36 rfl) rfl
/-! java/lang/RuntimeException -/
set_option maxRecDepth 100000
def RJ7 : String := "java/lang/RuntimeException"
abbrev cJ7_init : ByteArray := prog_38_method_2_code
def yJ7_init : MethodName := ⟨RJ7, "<init>", "(Ljava/lang/String;)V"⟩
def dkwJ7_init_0 : List UInt8 := [42, 43, 183, 0, 7, 177]
abbrev dktJ7_init_0 : List UInt8 := dkwJ7_init_0 ++ []
theorem dksJ7_init_0 : cJ7_init.data.toList.drop 0 = dktJ7_init_0 := by decide +kernel
theorem dJ7_init_0 : decode cJ7_init 0 = .ok (.aload_n 0, 1) := dk_42 (dk_at dksJ7_init_0 0 rfl rfl)
theorem dJ7_init_1 : decode cJ7_init 1 = .ok (.aload_n 1, 1) := dk_43 (dk_at dksJ7_init_0 1 rfl rfl)
theorem dJ7_init_2 : decode cJ7_init 2 = .ok (.invokespecial 7, 3) := dk_183 0 7 (dk_at dksJ7_init_0 2 rfl rfl)
theorem dJ7_init_5 : decode cJ7_init 5 = .ok (.return_, 1) := dk_177 (dk_at dksJ7_init_0 5 rfl rfl)
abbrev cJ7_init_2 : ByteArray := prog_38_method_1_code
def yJ7_init_2 : MethodName := ⟨RJ7, "<init>", "()V"⟩
theorem dJ7_init_2_0 : decode cJ7_init_2 0 = .ok (.aload_n 0, 1) := by decide +kernel
theorem dJ7_init_2_1 : decode cJ7_init_2 1 = .ok (.invokespecial 1, 3) := by decide +kernel
theorem dJ7_init_2_4 : decode cJ7_init_2 4 = .ok (.return_, 1) := by decide +kernel
theorem q106 : (Jvm.Cond.initialized "java/lang/RuntimeException") ∈ lw_all := lw_g (lw_at lw_m1 19 rfl) rfl
theorem q709 : (Jvm.Cond.declares ({ cls := "java/lang/RuntimeException", name := "<init>", desc := "()V" } : Jvm.MethodName)) ∈ lw_tbl := lw_at lw_m3 142 rfl
theorem q710 : (Jvm.Cond.declares ({ cls := "java/lang/RuntimeException", name := "<init>", desc := "(Ljava/lang/String;)V" } : Jvm.MethodName)) ∈ lw_tbl := lw_at lw_m3 143 rfl
theorem q751 : (Jvm.Cond.sameMethod "java/lang/RuntimeException" "java/lang/Throwable" "fillInStackTrace" "()Ljava/lang/Throwable;") ∈ lw_all := lw_g (lw_at lw_m3 184 rfl) rfl
theorem q754 : (Jvm.Cond.superclass "java/lang/RuntimeException" "java/lang/Exception") ∈ lw_all := lw_g (lw_at lw_m3 187 rfl) rfl
theorem q767 : (Jvm.Cond.instanceMethod ({ cls := "java/lang/RuntimeException", name := "<init>", desc := "(Ljava/lang/String;)V" } : Jvm.MethodName)) ∈ lw_all := lw_g (lw_at lw_m3 200 rfl) rfl
theorem q768 : (Jvm.Cond.code ({ cls := "java/lang/RuntimeException", name := "<init>", desc := "(Ljava/lang/String;)V" } : Jvm.MethodName) prog_38_method_2_code (2 : Nat) (Option.none : Option Jvm.ClassFile.FieldType)) ∈ lw_all := lw_g (lw_at lw_m3 201 rfl) rfl
theorem q769 : (Jvm.Cond.methodLink "java/lang/RuntimeException" (7 : Nat) ({ cls := "java/lang/Exception", name := "<init>", desc := "(Ljava/lang/String;)V" } : Jvm.MethodName)) ∈ lw_all := lw_g (lw_at lw_m3 202 rfl) rfl
theorem q1078 : (Jvm.Cond.instanceMethod ({ cls := "java/lang/RuntimeException", name := "<init>", desc := "()V" } : Jvm.MethodName)) ∈ lw_all := lw_g (lw_at lw_m5 31 rfl) rfl
theorem q1079 : (Jvm.Cond.code ({ cls := "java/lang/RuntimeException", name := "<init>", desc := "()V" } : Jvm.MethodName) prog_38_method_1_code (1 : Nat) (Option.none : Option Jvm.ClassFile.FieldType)) ∈ lw_all := lw_g (lw_at lw_m5 32 rfl) rfl
theorem q1080 : (Jvm.Cond.methodLink "java/lang/RuntimeException" (1 : Nat) ({ cls := "java/lang/Exception", name := "<init>", desc := "()V" } : Jvm.MethodName)) ∈ lw_all := lw_g (lw_at lw_m5 33 rfl) rfl
theorem q1687 : (Jvm.Cond.castable "java/lang/RuntimeException" "java/lang/Throwable") ∈ lw_tbl := lw_at lw_m7 160 rfl
/-! java/lang/ArithmeticException -/
set_option maxRecDepth 100000
def RJ8 : String := "java/lang/ArithmeticException"
def TJ8 : u_T := fun k => match k with
  | 0 => ("java/lang/Throwable", "cause", "Ljava/lang/Throwable;", false)
  | 1 => ("java/lang/Throwable", "stackTrace", "[Ljava/lang/StackTraceElement;", false)
  | 2 => ("java/lang/Throwable", "suppressedExceptions", "Ljava/util/List;", false)
  | 3 => ("java/lang/Throwable", "detailMessage", "Ljava/lang/String;", false)
  | 4 => ("java/lang/Throwable", "backtrace", "Ljava/lang/Object;", false)
  | _ => ("java/lang/Throwable", "depth", "I", false)
def tyJ8 : Nat → FieldType := fun k => match k with
  | 0 => .object "java/lang/Throwable"
  | 1 => .array (.object "java/lang/StackTraceElement")
  | 2 => .object "java/util/List"
  | 3 => .object "java/lang/String"
  | 4 => .object "java/lang/Object"
  | _ => .int
abbrev wsJ80 : List Cond := u_ws RJ8 TJ8 6
theorem nmJ8 : ∀ a, a < 6 → ∀ b, b < 6 → a ≠ b → (TJ8 a).2.1 ≠ (TJ8 b).2.1 := by decide +kernel
theorem tyJ8_ok : ∀ k, k < 6 → parseFieldDescriptor (TJ8 k).2.2.1 = some (tyJ8 k) := by decide +kernel
abbrev cJ8_init : ByteArray := prog_28_method_2_code
def yJ8_init : MethodName := ⟨RJ8, "<init>", "(Ljava/lang/String;)V"⟩
def dkwJ8_init_0 : List UInt8 := [42, 43, 183, 0, 7, 177]
abbrev dktJ8_init_0 : List UInt8 := dkwJ8_init_0 ++ []
theorem dksJ8_init_0 : cJ8_init.data.toList.drop 0 = dktJ8_init_0 := by decide +kernel
theorem dJ8_init_0 : decode cJ8_init 0 = .ok (.aload_n 0, 1) := dk_42 (dk_at dksJ8_init_0 0 rfl rfl)
theorem dJ8_init_1 : decode cJ8_init 1 = .ok (.aload_n 1, 1) := dk_43 (dk_at dksJ8_init_0 1 rfl rfl)
theorem dJ8_init_2 : decode cJ8_init 2 = .ok (.invokespecial 7, 3) := dk_183 0 7 (dk_at dksJ8_init_0 2 rfl rfl)
theorem dJ8_init_5 : decode cJ8_init 5 = .ok (.return_, 1) := dk_177 (dk_at dksJ8_init_0 5 rfl rfl)
theorem q107 : (Jvm.Cond.initialized "java/lang/ArithmeticException") ∈ lw_all := lw_g (lw_at lw_m1 20 rfl) rfl
theorem q707 : (Jvm.Cond.instantiable "java/lang/ArithmeticException" (6 : Nat)) ∈ lw_all := lw_g (lw_at lw_m3 140 rfl) rfl
theorem q708 : (Jvm.Cond.castable "java/lang/ArithmeticException" "java/lang/ArithmeticException") ∈ lw_tbl := lw_at lw_m3 141 rfl
theorem q715 : (Jvm.Cond.selects "java/lang/ArithmeticException" ({ cls := "java/lang/Throwable", name := "fillInStackTrace", desc := "(I)Ljava/lang/Throwable;" } : Jvm.MethodName) ({ cls := "java/lang/Throwable", name := "fillInStackTrace", desc := "(I)Ljava/lang/Throwable;" } : Jvm.MethodName)) ∈ lw_all := lw_g (lw_at lw_m3 148 rfl) rfl
theorem q716 : (Jvm.Cond.selects "java/lang/ArithmeticException" ({ cls := "java/lang/Throwable", name := "fillInStackTrace", desc := "()Ljava/lang/Throwable;" } : Jvm.MethodName) ({ cls := "java/lang/Throwable", name := "fillInStackTrace", desc := "()Ljava/lang/Throwable;" } : Jvm.MethodName)) ∈ lw_all := lw_g (lw_at lw_m3 149 rfl) rfl
theorem q717 : (Jvm.Cond.lays "java/lang/ArithmeticException" "java/lang/Throwable" "cause" "Ljava/lang/Throwable;") ∈ lw_all := lw_g (lw_at lw_m3 150 rfl) rfl
theorem q719 : (Jvm.Cond.lays "java/lang/ArithmeticException" "java/lang/Throwable" "stackTrace" "[Ljava/lang/StackTraceElement;") ∈ lw_all := lw_g (lw_at lw_m3 152 rfl) rfl
theorem q721 : (Jvm.Cond.lays "java/lang/ArithmeticException" "java/lang/Throwable" "suppressedExceptions" "Ljava/util/List;") ∈ lw_all := lw_g (lw_at lw_m3 154 rfl) rfl
theorem q723 : (Jvm.Cond.lays "java/lang/ArithmeticException" "java/lang/Throwable" "detailMessage" "Ljava/lang/String;") ∈ lw_all := lw_g (lw_at lw_m3 156 rfl) rfl
theorem q725 : (Jvm.Cond.lays "java/lang/ArithmeticException" "java/lang/Throwable" "backtrace" "Ljava/lang/Object;") ∈ lw_all := lw_g (lw_at lw_m3 158 rfl) rfl
theorem q764 : (Jvm.Cond.instanceMethod ({ cls := "java/lang/ArithmeticException", name := "<init>", desc := "(Ljava/lang/String;)V" } : Jvm.MethodName)) ∈ lw_all := lw_g (lw_at lw_m3 197 rfl) rfl
theorem q765 : (Jvm.Cond.code ({ cls := "java/lang/ArithmeticException", name := "<init>", desc := "(Ljava/lang/String;)V" } : Jvm.MethodName) prog_28_method_2_code (2 : Nat) (Option.none : Option Jvm.ClassFile.FieldType)) ∈ lw_all := lw_g (lw_at lw_m3 198 rfl) rfl
theorem q766 : (Jvm.Cond.methodLink "java/lang/ArithmeticException" (7 : Nat) ({ cls := "java/lang/RuntimeException", name := "<init>", desc := "(Ljava/lang/String;)V" } : Jvm.MethodName)) ∈ lw_all := lw_g (lw_at lw_m3 199 rfl) rfl
theorem q784 : (Jvm.Cond.lays "java/lang/ArithmeticException" "java/lang/Throwable" "depth" "I") ∈ lw_all := lw_g (lw_at lw_m3 217 rfl) rfl
theorem q787 : (Jvm.Cond.superclass "java/lang/ArithmeticException" "java/lang/RuntimeException") ∈ lw_all := lw_g (lw_at lw_m3 220 rfl) rfl
theorem q1131 : (Jvm.Cond.selects "java/lang/ArithmeticException" ({ cls := "java/lang/Object", name := "getClass", desc := "()Ljava/lang/Class;" } : Jvm.MethodName) ({ cls := "java/lang/Object", name := "getClass", desc := "()Ljava/lang/Class;" } : Jvm.MethodName)) ∈ lw_all := lw_g (lw_at lw_m5 84 rfl) rfl
theorem q2563 : (Jvm.Cond.castable "java/lang/ArithmeticException" "java/lang/Object") ∈ lw_tbl := lw_at lw_m11 76 rfl
theorem in_J8 : ∀ w ∈ wsJ80, w ∈ lw_all := lw_in wsJ80 [717, 719, 721, 723, 725, 784] (by decide +kernel) (by decide +kernel)
/-! java/lang/String -/
set_option maxRecDepth 100000
def RJ9 : String := "java/lang/String"
def TJ9 : u_T := fun k => match k with
  | 0 => ("java/lang/String", "value", "[B", true)
  | _ => ("java/lang/String", "coder", "B", true)
def tyJ9 : Nat → FieldType := fun k => match k with
  | 0 => .array .byte
  | _ => .byte
abbrev wsJ90 : List Cond := u_ws RJ9 TJ9 2
theorem nmJ9 : ∀ a, a < 2 → ∀ b, b < 2 → a ≠ b → (TJ9 a).2.1 ≠ (TJ9 b).2.1 := by decide +kernel
theorem tyJ9_ok : ∀ k, k < 2 → parseFieldDescriptor (TJ9 k).2.2.1 = some (tyJ9 k) := by decide +kernel
abbrev cJ9_compareTo : ByteArray := prog_39_method_162_code
def yJ9_compareTo : MethodName := ⟨RJ9, "compareTo", "(Ljava/lang/Object;)I"⟩
def dkwJ9_compareTo_0 : List UInt8 := [42, 43, 192, 0, 10, 182, 4, 60, 172]
abbrev dktJ9_compareTo_0 : List UInt8 := dkwJ9_compareTo_0 ++ []
theorem dksJ9_compareTo_0 : cJ9_compareTo.data.toList.drop 0 = dktJ9_compareTo_0 := by decide +kernel
theorem dJ9_compareTo_0 : decode cJ9_compareTo 0 = .ok (.aload_n 0, 1) := dk_42 (dk_at dksJ9_compareTo_0 0 rfl rfl)
theorem dJ9_compareTo_1 : decode cJ9_compareTo 1 = .ok (.aload_n 1, 1) := dk_43 (dk_at dksJ9_compareTo_0 1 rfl rfl)
theorem dJ9_compareTo_2 : decode cJ9_compareTo 2 = .ok (.checkcast 10, 3) := dk_192 0 10 (dk_at dksJ9_compareTo_0 2 rfl rfl)
theorem dJ9_compareTo_5 : decode cJ9_compareTo 5 = .ok (.invokevirtual 1084, 3) := dk_182 4 60 (dk_at dksJ9_compareTo_0 5 rfl rfl)
theorem dJ9_compareTo_8 : decode cJ9_compareTo 8 = .ok (.ireturn, 1) := dk_172 (dk_at dksJ9_compareTo_0 8 rfl rfl)
abbrev cJ9_compareTo_2 : ByteArray := prog_39_method_71_code
def yJ9_compareTo_2 : MethodName := ⟨RJ9, "compareTo", "(Ljava/lang/String;)I"⟩
def dkwJ9_compareTo_2_2 : List UInt8 := [154, 0, 11, 44, 45, 184, 2, 79, 167, 0, 8, 44, 45, 184, 2, 82, 172]
abbrev dktJ9_compareTo_2_2 : List UInt8 := dkwJ9_compareTo_2_2 ++ []
def dkwJ9_compareTo_2_1 : List UInt8 := [160, 0, 22, 21, 4, 154, 0, 11, 44, 45, 184, 2, 74, 167, 0, 8, 44, 45, 184, 2, 78, 172, 21, 4]
abbrev dktJ9_compareTo_2_1 : List UInt8 := dkwJ9_compareTo_2_1 ++ dktJ9_compareTo_2_2
def dkwJ9_compareTo_2_0 : List UInt8 := [42, 180, 0, 9, 77, 43, 180, 0, 9, 78, 42, 182, 1, 79, 54, 4, 21, 4, 43, 182, 1, 79]
abbrev dktJ9_compareTo_2_0 : List UInt8 := dkwJ9_compareTo_2_0 ++ dktJ9_compareTo_2_1
theorem dksJ9_compareTo_2_0 : cJ9_compareTo_2.data.toList.drop 0 = dktJ9_compareTo_2_0 := by decide +kernel
theorem dksJ9_compareTo_2_1 : cJ9_compareTo_2.data.toList.drop 22 = dktJ9_compareTo_2_1 := dk_seg dksJ9_compareTo_2_0 22 rfl rfl
theorem dksJ9_compareTo_2_2 : cJ9_compareTo_2.data.toList.drop 46 = dktJ9_compareTo_2_2 := dk_seg dksJ9_compareTo_2_1 24 rfl rfl
theorem dJ9_compareTo_2_0 : decode cJ9_compareTo_2 0 = .ok (.aload_n 0, 1) := dk_42 (dk_at dksJ9_compareTo_2_0 0 rfl rfl)
theorem dJ9_compareTo_2_1 : decode cJ9_compareTo_2 1 = .ok (.getfield 9, 3) := dk_180 0 9 (dk_at dksJ9_compareTo_2_0 1 rfl rfl)
theorem dJ9_compareTo_2_4 : decode cJ9_compareTo_2 4 = .ok (.astore_n 2, 1) := dk_77 (dk_at dksJ9_compareTo_2_0 4 rfl rfl)
theorem dJ9_compareTo_2_5 : decode cJ9_compareTo_2 5 = .ok (.aload_n 1, 1) := dk_43 (dk_at dksJ9_compareTo_2_0 5 rfl rfl)
theorem dJ9_compareTo_2_6 : decode cJ9_compareTo_2 6 = .ok (.getfield 9, 3) := dk_180 0 9 (dk_at dksJ9_compareTo_2_0 6 rfl rfl)
theorem dJ9_compareTo_2_9 : decode cJ9_compareTo_2 9 = .ok (.astore_n 3, 1) := dk_78 (dk_at dksJ9_compareTo_2_0 9 rfl rfl)
theorem dJ9_compareTo_2_10 : decode cJ9_compareTo_2 10 = .ok (.aload_n 0, 1) := dk_42 (dk_at dksJ9_compareTo_2_0 10 rfl rfl)
theorem dJ9_compareTo_2_11 : decode cJ9_compareTo_2 11 = .ok (.invokevirtual 335, 3) := dk_182 1 79 (dk_at dksJ9_compareTo_2_0 11 rfl rfl)
theorem dJ9_compareTo_2_14 : decode cJ9_compareTo_2 14 = .ok (.istore 4, 2) := dk_54 4 (dk_at dksJ9_compareTo_2_0 14 rfl rfl)
theorem dJ9_compareTo_2_16 : decode cJ9_compareTo_2 16 = .ok (.iload 4, 2) := dk_21 4 (dk_at dksJ9_compareTo_2_0 16 rfl rfl)
theorem dJ9_compareTo_2_18 : decode cJ9_compareTo_2 18 = .ok (.aload_n 1, 1) := dk_43 (dk_at dksJ9_compareTo_2_0 18 rfl rfl)
theorem dJ9_compareTo_2_19 : decode cJ9_compareTo_2 19 = .ok (.invokevirtual 335, 3) := dk_182 1 79 (dk_at dksJ9_compareTo_2_0 19 rfl rfl)
theorem dJ9_compareTo_2_22 : decode cJ9_compareTo_2 22 = .ok (.if_icmp .ne 22, 3) := dk_160 0 22 (dk_at dksJ9_compareTo_2_1 0 rfl rfl)
theorem dJ9_compareTo_2_25 : decode cJ9_compareTo_2 25 = .ok (.iload 4, 2) := dk_21 4 (dk_at dksJ9_compareTo_2_1 3 rfl rfl)
theorem dJ9_compareTo_2_27 : decode cJ9_compareTo_2 27 = .ok (.ifCond .ne 11, 3) := dk_154 0 11 (dk_at dksJ9_compareTo_2_1 5 rfl rfl)
theorem dJ9_compareTo_2_30 : decode cJ9_compareTo_2 30 = .ok (.aload_n 2, 1) := dk_44 (dk_at dksJ9_compareTo_2_1 8 rfl rfl)
theorem dJ9_compareTo_2_31 : decode cJ9_compareTo_2 31 = .ok (.aload_n 3, 1) := dk_45 (dk_at dksJ9_compareTo_2_1 9 rfl rfl)
theorem dJ9_compareTo_2_32 : decode cJ9_compareTo_2 32 = .ok (.invokestatic 586, 3) := dk_184 2 74 (dk_at dksJ9_compareTo_2_1 10 rfl rfl)
theorem dJ9_compareTo_2_35 : decode cJ9_compareTo_2 35 = .ok (.goto 8, 3) := dk_167 0 8 (dk_at dksJ9_compareTo_2_1 13 rfl rfl)
theorem dJ9_compareTo_2_38 : decode cJ9_compareTo_2 38 = .ok (.aload_n 2, 1) := dk_44 (dk_at dksJ9_compareTo_2_1 16 rfl rfl)
theorem dJ9_compareTo_2_39 : decode cJ9_compareTo_2 39 = .ok (.aload_n 3, 1) := dk_45 (dk_at dksJ9_compareTo_2_1 17 rfl rfl)
theorem dJ9_compareTo_2_40 : decode cJ9_compareTo_2 40 = .ok (.invokestatic 590, 3) := dk_184 2 78 (dk_at dksJ9_compareTo_2_1 18 rfl rfl)
theorem dJ9_compareTo_2_43 : decode cJ9_compareTo_2 43 = .ok (.ireturn, 1) := dk_172 (dk_at dksJ9_compareTo_2_1 21 rfl rfl)
theorem dJ9_compareTo_2_44 : decode cJ9_compareTo_2 44 = .ok (.iload 4, 2) := dk_21 4 (dk_at dksJ9_compareTo_2_1 22 rfl rfl)
theorem dJ9_compareTo_2_46 : decode cJ9_compareTo_2 46 = .ok (.ifCond .ne 11, 3) := dk_154 0 11 (dk_at dksJ9_compareTo_2_2 0 rfl rfl)
theorem dJ9_compareTo_2_49 : decode cJ9_compareTo_2 49 = .ok (.aload_n 2, 1) := dk_44 (dk_at dksJ9_compareTo_2_2 3 rfl rfl)
theorem dJ9_compareTo_2_50 : decode cJ9_compareTo_2 50 = .ok (.aload_n 3, 1) := dk_45 (dk_at dksJ9_compareTo_2_2 4 rfl rfl)
theorem dJ9_compareTo_2_51 : decode cJ9_compareTo_2 51 = .ok (.invokestatic 591, 3) := dk_184 2 79 (dk_at dksJ9_compareTo_2_2 5 rfl rfl)
theorem dJ9_compareTo_2_54 : decode cJ9_compareTo_2 54 = .ok (.goto 8, 3) := dk_167 0 8 (dk_at dksJ9_compareTo_2_2 8 rfl rfl)
theorem dJ9_compareTo_2_57 : decode cJ9_compareTo_2 57 = .ok (.aload_n 2, 1) := dk_44 (dk_at dksJ9_compareTo_2_2 11 rfl rfl)
theorem dJ9_compareTo_2_58 : decode cJ9_compareTo_2 58 = .ok (.aload_n 3, 1) := dk_45 (dk_at dksJ9_compareTo_2_2 12 rfl rfl)
theorem dJ9_compareTo_2_59 : decode cJ9_compareTo_2 59 = .ok (.invokestatic 594, 3) := dk_184 2 82 (dk_at dksJ9_compareTo_2_2 13 rfl rfl)
theorem dJ9_compareTo_2_62 : decode cJ9_compareTo_2 62 = .ok (.ireturn, 1) := dk_172 (dk_at dksJ9_compareTo_2_2 16 rfl rfl)
abbrev cJ9_coder : ByteArray := prog_39_method_152_code
def yJ9_coder : MethodName := ⟨RJ9, "coder", "()B"⟩
def dkwJ9_coder_0 : List UInt8 := [178, 0, 38, 153, 0, 10, 42, 180, 0, 15, 167, 0, 4, 4, 172]
abbrev dktJ9_coder_0 : List UInt8 := dkwJ9_coder_0 ++ []
theorem dksJ9_coder_0 : cJ9_coder.data.toList.drop 0 = dktJ9_coder_0 := by decide +kernel
theorem dJ9_coder_0 : decode cJ9_coder 0 = .ok (.getstatic 38, 3) := dk_178 0 38 (dk_at dksJ9_coder_0 0 rfl rfl)
theorem dJ9_coder_3 : decode cJ9_coder 3 = .ok (.ifCond .eq 10, 3) := dk_153 0 10 (dk_at dksJ9_coder_0 3 rfl rfl)
theorem dJ9_coder_6 : decode cJ9_coder 6 = .ok (.aload_n 0, 1) := dk_42 (dk_at dksJ9_coder_0 6 rfl rfl)
theorem dJ9_coder_7 : decode cJ9_coder 7 = .ok (.getfield 15, 3) := dk_180 0 15 (dk_at dksJ9_coder_0 7 rfl rfl)
theorem dJ9_coder_10 : decode cJ9_coder 10 = .ok (.goto 4, 3) := dk_167 0 4 (dk_at dksJ9_coder_0 10 rfl rfl)
theorem dJ9_coder_13 : decode cJ9_coder 13 = .ok (.iconst 1, 1) := dk_4 (dk_at dksJ9_coder_0 13 rfl rfl)
theorem dJ9_coder_14 : decode cJ9_coder 14 = .ok (.ireturn, 1) := dk_172 (dk_at dksJ9_coder_0 14 rfl rfl)
theorem q108 : (Jvm.Cond.initialized "java/lang/String") ∈ lw_all := lw_g (lw_at lw_m1 21 rfl) rfl
theorem q799 : (Jvm.Cond.instantiable "java/lang/String" (4 : Nat)) ∈ lw_all := lw_g (lw_at lw_m3 232 rfl) rfl
theorem q800 : (Jvm.Cond.laysFinal "java/lang/String" "java/lang/String" "value" "[B") ∈ lw_all := lw_g (lw_at lw_m3 233 rfl) rfl
theorem q801 : (Jvm.Cond.soleField "java/lang/String" "value") ∈ lw_all := lw_g (lw_at lw_m3 234 rfl) rfl
theorem q802 : (Jvm.Cond.laysFinal "java/lang/String" "java/lang/String" "coder" "B") ∈ lw_all := lw_g (lw_at lw_m3 235 rfl) rfl
theorem q803 : (Jvm.Cond.soleField "java/lang/String" "coder") ∈ lw_all := lw_g (lw_at lw_m3 236 rfl) rfl
theorem q1188 : (Jvm.Cond.castable "java/lang/String" "java/lang/Comparable") ∈ lw_tbl := lw_at lw_m5 141 rfl
theorem q1189 : (Jvm.Cond.selects "java/lang/String" ({ cls := "java/lang/Comparable", name := "compareTo", desc := "(Ljava/lang/Object;)I" } : Jvm.MethodName) ({ cls := "java/lang/String", name := "compareTo", desc := "(Ljava/lang/Object;)I" } : Jvm.MethodName)) ∈ lw_all := lw_g (lw_at lw_m5 142 rfl) rfl
theorem q1190 : (Jvm.Cond.unhidden "java/lang/String" "compareTo" "(Ljava/lang/Object;)I") ∈ lw_tbl := lw_at lw_m5 143 rfl
theorem q1191 : (Jvm.Cond.instanceMethod ({ cls := "java/lang/String", name := "compareTo", desc := "(Ljava/lang/Object;)I" } : Jvm.MethodName)) ∈ lw_all := lw_g (lw_at lw_m5 144 rfl) rfl
theorem q1192 : (Jvm.Cond.publicMethod ({ cls := "java/lang/String", name := "compareTo", desc := "(Ljava/lang/Object;)I" } : Jvm.MethodName)) ∈ lw_tbl := lw_at lw_m5 145 rfl
theorem q1193 : (Jvm.Cond.code ({ cls := "java/lang/String", name := "compareTo", desc := "(Ljava/lang/Object;)I" } : Jvm.MethodName) prog_39_method_162_code (2 : Nat) (Option.some Jvm.ClassFile.FieldType.int)) ∈ lw_all := lw_g (lw_at lw_m5 146 rfl) rfl
theorem q1194 : (Jvm.Cond.classLink "java/lang/String" (10 : Nat) "java/lang/String") ∈ lw_all := lw_g (lw_at lw_m5 147 rfl) rfl
theorem q1195 : (Jvm.Cond.methodLink "java/lang/String" (1084 : Nat) ({ cls := "java/lang/String", name := "compareTo", desc := "(Ljava/lang/String;)I" } : Jvm.MethodName)) ∈ lw_all := lw_g (lw_at lw_m5 148 rfl) rfl
theorem q1196 : (Jvm.Cond.instanceMethod ({ cls := "java/lang/String", name := "compareTo", desc := "(Ljava/lang/String;)I" } : Jvm.MethodName)) ∈ lw_all := lw_g (lw_at lw_m5 149 rfl) rfl
theorem q1197 : (Jvm.Cond.selects "java/lang/String" ({ cls := "java/lang/String", name := "compareTo", desc := "(Ljava/lang/String;)I" } : Jvm.MethodName) ({ cls := "java/lang/String", name := "compareTo", desc := "(Ljava/lang/String;)I" } : Jvm.MethodName)) ∈ lw_all := lw_g (lw_at lw_m5 150 rfl) rfl
theorem q1198 : (Jvm.Cond.code ({ cls := "java/lang/String", name := "compareTo", desc := "(Ljava/lang/String;)I" } : Jvm.MethodName) prog_39_method_71_code (5 : Nat) (Option.some Jvm.ClassFile.FieldType.int)) ∈ lw_all := lw_g (lw_at lw_m5 151 rfl) rfl
theorem q1199 : (Jvm.Cond.methodLink "java/lang/String" (335 : Nat) ({ cls := "java/lang/String", name := "coder", desc := "()B" } : Jvm.MethodName)) ∈ lw_all := lw_g (lw_at lw_m5 152 rfl) rfl
theorem q1200 : (Jvm.Cond.instanceMethod ({ cls := "java/lang/String", name := "coder", desc := "()B" } : Jvm.MethodName)) ∈ lw_all := lw_g (lw_at lw_m5 153 rfl) rfl
theorem q1201 : (Jvm.Cond.selects "java/lang/String" ({ cls := "java/lang/String", name := "coder", desc := "()B" } : Jvm.MethodName) ({ cls := "java/lang/String", name := "coder", desc := "()B" } : Jvm.MethodName)) ∈ lw_all := lw_g (lw_at lw_m5 154 rfl) rfl
theorem q1202 : (Jvm.Cond.code ({ cls := "java/lang/String", name := "coder", desc := "()B" } : Jvm.MethodName) prog_39_method_152_code (1 : Nat) (Option.some Jvm.ClassFile.FieldType.byte)) ∈ lw_all := lw_g (lw_at lw_m5 155 rfl) rfl
theorem q1203 : (Jvm.Cond.fieldLink "java/lang/String" (38 : Nat) "java/lang/String" "COMPACT_STRINGS" "Z") ∈ lw_all := lw_g (lw_at lw_m5 156 rfl) rfl
theorem q1204 : (Jvm.Cond.laysStatic "java/lang/String" "COMPACT_STRINGS" "Z") ∈ lw_tbl := lw_at lw_m5 157 rfl
theorem q2579 : (Jvm.Cond.castable "java/lang/String" "java/lang/Object") ∈ lw_tbl := lw_at lw_m11 92 rfl
theorem q2598 : (Jvm.Cond.fieldLink "java/lang/String" (9 : Nat) "java/lang/String" "value" "[B") ∈ lw_all := lw_g (lw_at lw_m11 111 rfl) rfl
theorem q2599 : (Jvm.Cond.fieldLink "java/lang/String" (15 : Nat) "java/lang/String" "coder" "B") ∈ lw_all := lw_g (lw_at lw_m11 112 rfl) rfl
theorem in_J9 : ∀ w ∈ wsJ90, w ∈ lw_all := lw_in wsJ90 [800, 802] (by decide +kernel) (by decide +kernel)
/-! java/lang/NullPointerException -/
set_option maxRecDepth 100000
def RJ10 : String := "java/lang/NullPointerException"
def TJ10 : u_T := fun k => match k with
  | 0 => ("java/lang/Throwable", "cause", "Ljava/lang/Throwable;", false)
  | 1 => ("java/lang/Throwable", "stackTrace", "[Ljava/lang/StackTraceElement;", false)
  | 2 => ("java/lang/Throwable", "suppressedExceptions", "Ljava/util/List;", false)
  | 3 => ("java/lang/Throwable", "detailMessage", "Ljava/lang/String;", false)
  | 4 => ("java/lang/Throwable", "backtrace", "Ljava/lang/Object;", false)
  | 5 => ("java/lang/Throwable", "depth", "I", false)
  | 6 => ("java/lang/NullPointerException", "extendedMessageState", "I", false)
  | _ => ("java/lang/NullPointerException", "extendedMessage", "Ljava/lang/String;", false)
def tyJ10 : Nat → FieldType := fun k => match k with
  | 0 => .object "java/lang/Throwable"
  | 1 => .array (.object "java/lang/StackTraceElement")
  | 2 => .object "java/util/List"
  | 3 => .object "java/lang/String"
  | 4 => .object "java/lang/Object"
  | 5 => .int
  | 6 => .int
  | _ => .object "java/lang/String"
abbrev wsJ100 : List Cond := u_ws RJ10 TJ10 8
theorem nmJ10 : ∀ a, a < 8 → ∀ b, b < 8 → a ≠ b → (TJ10 a).2.1 ≠ (TJ10 b).2.1 := by decide +kernel
theorem tyJ10_ok : ∀ k, k < 8 → parseFieldDescriptor (TJ10 k).2.2.1 = some (tyJ10 k) := by decide +kernel
abbrev cJ10_init : ByteArray := prog_37_method_1_code
def yJ10_init : MethodName := ⟨RJ10, "<init>", "()V"⟩
theorem dJ10_init_0 : decode cJ10_init 0 = .ok (.aload_n 0, 1) := by decide +kernel
theorem dJ10_init_1 : decode cJ10_init 1 = .ok (.invokespecial 1, 3) := by decide +kernel
theorem dJ10_init_4 : decode cJ10_init 4 = .ok (.return_, 1) := by decide +kernel
theorem q111 : (Jvm.Cond.initialized "java/lang/NullPointerException") ∈ lw_all := lw_g (lw_at lw_m1 24 rfl) rfl
theorem q742 : (Jvm.Cond.selects "java/lang/NullPointerException" ({ cls := "java/lang/Throwable", name := "fillInStackTrace", desc := "()Ljava/lang/Throwable;" } : Jvm.MethodName) ({ cls := "java/lang/NullPointerException", name := "fillInStackTrace", desc := "()Ljava/lang/Throwable;" } : Jvm.MethodName)) ∈ lw_all := lw_g (lw_at lw_m3 175 rfl) rfl
theorem q743 : (Jvm.Cond.instanceMethod ({ cls := "java/lang/NullPointerException", name := "fillInStackTrace", desc := "()Ljava/lang/Throwable;" } : Jvm.MethodName)) ∈ lw_all := lw_g (lw_at lw_m3 176 rfl) rfl
theorem q744 : (Jvm.Cond.codeSync ({ cls := "java/lang/NullPointerException", name := "fillInStackTrace", desc := "()Ljava/lang/Throwable;" } : Jvm.MethodName) prog_37_method_3_code (1 : Nat) (Option.some (Jvm.ClassFile.FieldType.object "java/lang/Throwable"))) ∈ lw_all := lw_g (lw_at lw_m3 177 rfl) rfl
theorem q745 : (Jvm.Cond.methodLink "java/lang/NullPointerException" (16 : Nat) ({ cls := "java/lang/NullPointerException", name := "getExtendedNPEMessage", desc := "()Ljava/lang/String;" } : Jvm.MethodName)) ∈ lw_all := lw_g (lw_at lw_m3 178 rfl) rfl
theorem q746 : (Jvm.Cond.privateMethod ({ cls := "java/lang/NullPointerException", name := "getExtendedNPEMessage", desc := "()Ljava/lang/String;" } : Jvm.MethodName)) ∈ lw_tbl := lw_at lw_m3 179 rfl
theorem q747 : (Jvm.Cond.instanceMethod ({ cls := "java/lang/NullPointerException", name := "getExtendedNPEMessage", desc := "()Ljava/lang/String;" } : Jvm.MethodName)) ∈ lw_all := lw_g (lw_at lw_m3 180 rfl) rfl
theorem q748 : (Jvm.Cond.instantiable "java/lang/NullPointerException" (8 : Nat)) ∈ lw_all := lw_g (lw_at lw_m3 181 rfl) rfl
theorem q749 : (Jvm.Cond.native ({ cls := "java/lang/NullPointerException", name := "getExtendedNPEMessage", desc := "()Ljava/lang/String;" } : Jvm.MethodName)) ∈ lw_all := lw_g (lw_at lw_m3 182 rfl) rfl
theorem q750 : (Jvm.Cond.methodLink "java/lang/NullPointerException" (24 : Nat) ({ cls := "java/lang/RuntimeException", name := "fillInStackTrace", desc := "()Ljava/lang/Throwable;" } : Jvm.MethodName)) ∈ lw_all := lw_g (lw_at lw_m3 183 rfl) rfl
theorem q753 : (Jvm.Cond.superclass "java/lang/NullPointerException" "java/lang/RuntimeException") ∈ lw_all := lw_g (lw_at lw_m3 186 rfl) rfl
theorem q1067 : (Jvm.Cond.castable "java/lang/NullPointerException" "java/lang/NullPointerException") ∈ lw_tbl := lw_at lw_m5 20 rfl
theorem q1068 : (Jvm.Cond.selects "java/lang/NullPointerException" ({ cls := "java/lang/Throwable", name := "fillInStackTrace", desc := "(I)Ljava/lang/Throwable;" } : Jvm.MethodName) ({ cls := "java/lang/Throwable", name := "fillInStackTrace", desc := "(I)Ljava/lang/Throwable;" } : Jvm.MethodName)) ∈ lw_all := lw_g (lw_at lw_m5 21 rfl) rfl
theorem q1069 : (Jvm.Cond.lays "java/lang/NullPointerException" "java/lang/Throwable" "cause" "Ljava/lang/Throwable;") ∈ lw_all := lw_g (lw_at lw_m5 22 rfl) rfl
theorem q1070 : (Jvm.Cond.lays "java/lang/NullPointerException" "java/lang/Throwable" "stackTrace" "[Ljava/lang/StackTraceElement;") ∈ lw_all := lw_g (lw_at lw_m5 23 rfl) rfl
theorem q1071 : (Jvm.Cond.lays "java/lang/NullPointerException" "java/lang/Throwable" "suppressedExceptions" "Ljava/util/List;") ∈ lw_all := lw_g (lw_at lw_m5 24 rfl) rfl
theorem q1072 : (Jvm.Cond.lays "java/lang/NullPointerException" "java/lang/Throwable" "detailMessage" "Ljava/lang/String;") ∈ lw_all := lw_g (lw_at lw_m5 25 rfl) rfl
theorem q1073 : (Jvm.Cond.lays "java/lang/NullPointerException" "java/lang/Throwable" "backtrace" "Ljava/lang/Object;") ∈ lw_all := lw_g (lw_at lw_m5 26 rfl) rfl
theorem q1075 : (Jvm.Cond.instanceMethod ({ cls := "java/lang/NullPointerException", name := "<init>", desc := "()V" } : Jvm.MethodName)) ∈ lw_all := lw_g (lw_at lw_m5 28 rfl) rfl
theorem q1076 : (Jvm.Cond.code ({ cls := "java/lang/NullPointerException", name := "<init>", desc := "()V" } : Jvm.MethodName) prog_37_method_1_code (1 : Nat) (Option.none : Option Jvm.ClassFile.FieldType)) ∈ lw_all := lw_g (lw_at lw_m5 29 rfl) rfl
theorem q1077 : (Jvm.Cond.methodLink "java/lang/NullPointerException" (1 : Nat) ({ cls := "java/lang/RuntimeException", name := "<init>", desc := "()V" } : Jvm.MethodName)) ∈ lw_all := lw_g (lw_at lw_m5 30 rfl) rfl
theorem q1084 : (Jvm.Cond.fieldLink "java/lang/NullPointerException" (10 : Nat) "java/lang/NullPointerException" "extendedMessageState" "I") ∈ lw_all := lw_g (lw_at lw_m5 37 rfl) rfl
theorem q1085 : (Jvm.Cond.fieldLink "java/lang/NullPointerException" (20 : Nat) "java/lang/NullPointerException" "extendedMessage" "Ljava/lang/String;") ∈ lw_all := lw_g (lw_at lw_m5 38 rfl) rfl
theorem q1086 : (Jvm.Cond.lays "java/lang/NullPointerException" "java/lang/NullPointerException" "extendedMessageState" "I") ∈ lw_all := lw_g (lw_at lw_m5 39 rfl) rfl
theorem q1087 : (Jvm.Cond.soleField "java/lang/NullPointerException" "extendedMessageState") ∈ lw_all := lw_g (lw_at lw_m5 40 rfl) rfl
theorem q1088 : (Jvm.Cond.lays "java/lang/NullPointerException" "java/lang/NullPointerException" "extendedMessage" "Ljava/lang/String;") ∈ lw_all := lw_g (lw_at lw_m5 41 rfl) rfl
theorem q1089 : (Jvm.Cond.soleField "java/lang/NullPointerException" "extendedMessage") ∈ lw_all := lw_g (lw_at lw_m5 42 rfl) rfl
theorem q1090 : (Jvm.Cond.lays "java/lang/NullPointerException" "java/lang/Throwable" "depth" "I") ∈ lw_all := lw_g (lw_at lw_m5 43 rfl) rfl
theorem q1134 : (Jvm.Cond.selects "java/lang/NullPointerException" ({ cls := "java/lang/Object", name := "getClass", desc := "()Ljava/lang/Class;" } : Jvm.MethodName) ({ cls := "java/lang/Object", name := "getClass", desc := "()Ljava/lang/Class;" } : Jvm.MethodName)) ∈ lw_all := lw_g (lw_at lw_m5 87 rfl) rfl
theorem q2566 : (Jvm.Cond.castable "java/lang/NullPointerException" "java/lang/Object") ∈ lw_tbl := lw_at lw_m11 79 rfl
theorem in_J10 : ∀ w ∈ wsJ100, w ∈ lw_all := lw_in wsJ100 [1069, 1070, 1071, 1072, 1073, 1090, 1086, 1088] (by decide +kernel) (by decide +kernel)
/-! java/lang/NegativeArraySizeException -/
set_option maxRecDepth 100000
def RJ13 : String := "java/lang/NegativeArraySizeException"
def TJ13 : u_T := fun k => match k with
  | 0 => ("java/lang/Throwable", "backtrace", "Ljava/lang/Object;", false)
  | 1 => ("java/lang/Throwable", "detailMessage", "Ljava/lang/String;", false)
  | 2 => ("java/lang/Throwable", "cause", "Ljava/lang/Throwable;", false)
  | 3 => ("java/lang/Throwable", "stackTrace", "[Ljava/lang/StackTraceElement;", false)
  | 4 => ("java/lang/Throwable", "depth", "I", false)
  | _ => ("java/lang/Throwable", "suppressedExceptions", "Ljava/util/List;", false)
def tyJ13 : Nat → FieldType := fun k => match k with
  | 0 => .object "java/lang/Object"
  | 1 => .object "java/lang/String"
  | 2 => .object "java/lang/Throwable"
  | 3 => .array (.object "java/lang/StackTraceElement")
  | 4 => .int
  | _ => .object "java/util/List"
abbrev wsJ130 : List Cond := u_ws RJ13 TJ13 6
theorem nmJ13 : ∀ a, a < 6 → ∀ b, b < 6 → a ≠ b → (TJ13 a).2.1 ≠ (TJ13 b).2.1 := by decide +kernel
theorem tyJ13_ok : ∀ k, k < 6 → parseFieldDescriptor (TJ13 k).2.2.1 = some (tyJ13 k) := by decide +kernel
abbrev cJ13_init : ByteArray := prog_36_method_2_code
def yJ13_init : MethodName := ⟨RJ13, "<init>", "(Ljava/lang/String;)V"⟩
def dkwJ13_init_0 : List UInt8 := [42, 43, 183, 0, 7, 177]
abbrev dktJ13_init_0 : List UInt8 := dkwJ13_init_0 ++ []
theorem dksJ13_init_0 : cJ13_init.data.toList.drop 0 = dktJ13_init_0 := by decide +kernel
theorem dJ13_init_0 : decode cJ13_init 0 = .ok (.aload_n 0, 1) := dk_42 (dk_at dksJ13_init_0 0 rfl rfl)
theorem dJ13_init_1 : decode cJ13_init 1 = .ok (.aload_n 1, 1) := dk_43 (dk_at dksJ13_init_0 1 rfl rfl)
theorem dJ13_init_2 : decode cJ13_init 2 = .ok (.invokespecial 7, 3) := dk_183 0 7 (dk_at dksJ13_init_0 2 rfl rfl)
theorem dJ13_init_5 : decode cJ13_init 5 = .ok (.return_, 1) := dk_177 (dk_at dksJ13_init_0 5 rfl rfl)
theorem q121 : (Jvm.Cond.initialized "java/lang/NegativeArraySizeException") ∈ lw_all := lw_g (lw_at lw_m1 34 rfl) rfl
theorem q741 : (Jvm.Cond.selects "java/lang/NegativeArraySizeException" ({ cls := "java/lang/Throwable", name := "fillInStackTrace", desc := "()Ljava/lang/Throwable;" } : Jvm.MethodName) ({ cls := "java/lang/Throwable", name := "fillInStackTrace", desc := "()Ljava/lang/Throwable;" } : Jvm.MethodName)) ∈ lw_all := lw_g (lw_at lw_m3 174 rfl) rfl
theorem q1133 : (Jvm.Cond.selects "java/lang/NegativeArraySizeException" ({ cls := "java/lang/Object", name := "getClass", desc := "()Ljava/lang/Class;" } : Jvm.MethodName) ({ cls := "java/lang/Object", name := "getClass", desc := "()Ljava/lang/Class;" } : Jvm.MethodName)) ∈ lw_all := lw_g (lw_at lw_m5 86 rfl) rfl
theorem q1632 : (Jvm.Cond.instantiable "java/lang/NegativeArraySizeException" (6 : Nat)) ∈ lw_all := lw_g (lw_at lw_m7 105 rfl) rfl
theorem q1633 : (Jvm.Cond.instanceMethod ({ cls := "java/lang/NegativeArraySizeException", name := "<init>", desc := "(Ljava/lang/String;)V" } : Jvm.MethodName)) ∈ lw_all := lw_g (lw_at lw_m7 106 rfl) rfl
theorem q1634 : (Jvm.Cond.code ({ cls := "java/lang/NegativeArraySizeException", name := "<init>", desc := "(Ljava/lang/String;)V" } : Jvm.MethodName) prog_36_method_2_code (2 : Nat) (Option.none : Option Jvm.ClassFile.FieldType)) ∈ lw_all := lw_g (lw_at lw_m7 107 rfl) rfl
theorem q1635 : (Jvm.Cond.methodLink "java/lang/NegativeArraySizeException" (7 : Nat) ({ cls := "java/lang/RuntimeException", name := "<init>", desc := "(Ljava/lang/String;)V" } : Jvm.MethodName)) ∈ lw_all := lw_g (lw_at lw_m7 108 rfl) rfl
theorem q1636 : (Jvm.Cond.lays "java/lang/NegativeArraySizeException" "java/lang/Throwable" "backtrace" "Ljava/lang/Object;") ∈ lw_all := lw_g (lw_at lw_m7 109 rfl) rfl
theorem q1637 : (Jvm.Cond.lays "java/lang/NegativeArraySizeException" "java/lang/Throwable" "detailMessage" "Ljava/lang/String;") ∈ lw_all := lw_g (lw_at lw_m7 110 rfl) rfl
theorem q1638 : (Jvm.Cond.lays "java/lang/NegativeArraySizeException" "java/lang/Throwable" "cause" "Ljava/lang/Throwable;") ∈ lw_all := lw_g (lw_at lw_m7 111 rfl) rfl
theorem q1639 : (Jvm.Cond.lays "java/lang/NegativeArraySizeException" "java/lang/Throwable" "stackTrace" "[Ljava/lang/StackTraceElement;") ∈ lw_all := lw_g (lw_at lw_m7 112 rfl) rfl
theorem q1640 : (Jvm.Cond.lays "java/lang/NegativeArraySizeException" "java/lang/Throwable" "depth" "I") ∈ lw_all := lw_g (lw_at lw_m7 113 rfl) rfl
theorem q1641 : (Jvm.Cond.lays "java/lang/NegativeArraySizeException" "java/lang/Throwable" "suppressedExceptions" "Ljava/util/List;") ∈ lw_all := lw_g (lw_at lw_m7 114 rfl) rfl
theorem q1642 : (Jvm.Cond.superclass "java/lang/NegativeArraySizeException" "java/lang/RuntimeException") ∈ lw_all := lw_g (lw_at lw_m7 115 rfl) rfl
theorem q1643 : (Jvm.Cond.castable "java/lang/NegativeArraySizeException" "java/lang/NegativeArraySizeException") ∈ lw_tbl := lw_at lw_m7 116 rfl
theorem q1644 : (Jvm.Cond.selects "java/lang/NegativeArraySizeException" ({ cls := "java/lang/Throwable", name := "fillInStackTrace", desc := "(I)Ljava/lang/Throwable;" } : Jvm.MethodName) ({ cls := "java/lang/Throwable", name := "fillInStackTrace", desc := "(I)Ljava/lang/Throwable;" } : Jvm.MethodName)) ∈ lw_all := lw_g (lw_at lw_m7 117 rfl) rfl
theorem q2573 : (Jvm.Cond.castable "java/lang/NegativeArraySizeException" "java/lang/Object") ∈ lw_tbl := lw_at lw_m11 86 rfl
theorem in_J13 : ∀ w ∈ wsJ130, w ∈ lw_all := lw_in wsJ130 [1636, 1637, 1638, 1639, 1640, 1641] (by decide +kernel) (by decide +kernel)
/-! java/lang/IndexOutOfBoundsException -/
set_option maxRecDepth 100000
def RJ14 : String := "java/lang/IndexOutOfBoundsException"
abbrev cJ14_init : ByteArray := prog_32_method_2_code
def yJ14_init : MethodName := ⟨RJ14, "<init>", "(Ljava/lang/String;)V"⟩
def dkwJ14_init_0 : List UInt8 := [42, 43, 183, 0, 7, 177]
abbrev dktJ14_init_0 : List UInt8 := dkwJ14_init_0 ++ []
theorem dksJ14_init_0 : cJ14_init.data.toList.drop 0 = dktJ14_init_0 := by decide +kernel
theorem dJ14_init_0 : decode cJ14_init 0 = .ok (.aload_n 0, 1) := dk_42 (dk_at dksJ14_init_0 0 rfl rfl)
theorem dJ14_init_1 : decode cJ14_init 1 = .ok (.aload_n 1, 1) := dk_43 (dk_at dksJ14_init_0 1 rfl rfl)
theorem dJ14_init_2 : decode cJ14_init 2 = .ok (.invokespecial 7, 3) := dk_183 0 7 (dk_at dksJ14_init_0 2 rfl rfl)
theorem dJ14_init_5 : decode cJ14_init 5 = .ok (.return_, 1) := dk_177 (dk_at dksJ14_init_0 5 rfl rfl)
theorem q125 : (Jvm.Cond.initialized "java/lang/IndexOutOfBoundsException") ∈ lw_all := lw_g (lw_at lw_m1 38 rfl) rfl
theorem q1693 : (Jvm.Cond.instanceMethod ({ cls := "java/lang/IndexOutOfBoundsException", name := "<init>", desc := "(Ljava/lang/String;)V" } : Jvm.MethodName)) ∈ lw_all := lw_g (lw_at lw_m7 166 rfl) rfl
theorem q1694 : (Jvm.Cond.code ({ cls := "java/lang/IndexOutOfBoundsException", name := "<init>", desc := "(Ljava/lang/String;)V" } : Jvm.MethodName) prog_32_method_2_code (2 : Nat) (Option.none : Option Jvm.ClassFile.FieldType)) ∈ lw_all := lw_g (lw_at lw_m7 167 rfl) rfl
theorem q1695 : (Jvm.Cond.methodLink "java/lang/IndexOutOfBoundsException" (7 : Nat) ({ cls := "java/lang/RuntimeException", name := "<init>", desc := "(Ljava/lang/String;)V" } : Jvm.MethodName)) ∈ lw_all := lw_g (lw_at lw_m7 168 rfl) rfl
theorem q1704 : (Jvm.Cond.declares ({ cls := "java/lang/IndexOutOfBoundsException", name := "<init>", desc := "()V" } : Jvm.MethodName)) ∈ lw_tbl := lw_at lw_m7 177 rfl
theorem q1705 : (Jvm.Cond.declares ({ cls := "java/lang/IndexOutOfBoundsException", name := "<init>", desc := "(Ljava/lang/String;)V" } : Jvm.MethodName)) ∈ lw_tbl := lw_at lw_m7 178 rfl
/-! java/lang/ArrayIndexOutOfBoundsException -/
set_option maxRecDepth 100000
def RJ15 : String := "java/lang/ArrayIndexOutOfBoundsException"
def TJ15 : u_T := fun k => match k with
  | 0 => ("java/lang/Throwable", "backtrace", "Ljava/lang/Object;", false)
  | 1 => ("java/lang/Throwable", "detailMessage", "Ljava/lang/String;", false)
  | 2 => ("java/lang/Throwable", "cause", "Ljava/lang/Throwable;", false)
  | 3 => ("java/lang/Throwable", "stackTrace", "[Ljava/lang/StackTraceElement;", false)
  | 4 => ("java/lang/Throwable", "depth", "I", false)
  | _ => ("java/lang/Throwable", "suppressedExceptions", "Ljava/util/List;", false)
def tyJ15 : Nat → FieldType := fun k => match k with
  | 0 => .object "java/lang/Object"
  | 1 => .object "java/lang/String"
  | 2 => .object "java/lang/Throwable"
  | 3 => .array (.object "java/lang/StackTraceElement")
  | 4 => .int
  | _ => .object "java/util/List"
abbrev wsJ150 : List Cond := u_ws RJ15 TJ15 6
theorem nmJ15 : ∀ a, a < 6 → ∀ b, b < 6 → a ≠ b → (TJ15 a).2.1 ≠ (TJ15 b).2.1 := by decide +kernel
theorem tyJ15_ok : ∀ k, k < 6 → parseFieldDescriptor (TJ15 k).2.2.1 = some (tyJ15 k) := by decide +kernel
abbrev cJ15_init : ByteArray := prog_29_method_2_code
def yJ15_init : MethodName := ⟨RJ15, "<init>", "(Ljava/lang/String;)V"⟩
def dkwJ15_init_0 : List UInt8 := [42, 43, 183, 0, 7, 177]
abbrev dktJ15_init_0 : List UInt8 := dkwJ15_init_0 ++ []
theorem dksJ15_init_0 : cJ15_init.data.toList.drop 0 = dktJ15_init_0 := by decide +kernel
theorem dJ15_init_0 : decode cJ15_init 0 = .ok (.aload_n 0, 1) := dk_42 (dk_at dksJ15_init_0 0 rfl rfl)
theorem dJ15_init_1 : decode cJ15_init 1 = .ok (.aload_n 1, 1) := dk_43 (dk_at dksJ15_init_0 1 rfl rfl)
theorem dJ15_init_2 : decode cJ15_init 2 = .ok (.invokespecial 7, 3) := dk_183 0 7 (dk_at dksJ15_init_0 2 rfl rfl)
theorem dJ15_init_5 : decode cJ15_init 5 = .ok (.return_, 1) := dk_177 (dk_at dksJ15_init_0 5 rfl rfl)
theorem q126 : (Jvm.Cond.initialized "java/lang/ArrayIndexOutOfBoundsException") ∈ lw_all := lw_g (lw_at lw_m1 39 rfl) rfl
theorem q740 : (Jvm.Cond.selects "java/lang/ArrayIndexOutOfBoundsException" ({ cls := "java/lang/Throwable", name := "fillInStackTrace", desc := "()Ljava/lang/Throwable;" } : Jvm.MethodName) ({ cls := "java/lang/Throwable", name := "fillInStackTrace", desc := "()Ljava/lang/Throwable;" } : Jvm.MethodName)) ∈ lw_all := lw_g (lw_at lw_m3 173 rfl) rfl
theorem q1132 : (Jvm.Cond.selects "java/lang/ArrayIndexOutOfBoundsException" ({ cls := "java/lang/Object", name := "getClass", desc := "()Ljava/lang/Class;" } : Jvm.MethodName) ({ cls := "java/lang/Object", name := "getClass", desc := "()Ljava/lang/Class;" } : Jvm.MethodName)) ∈ lw_all := lw_g (lw_at lw_m5 85 rfl) rfl
theorem q1689 : (Jvm.Cond.instantiable "java/lang/ArrayIndexOutOfBoundsException" (6 : Nat)) ∈ lw_all := lw_g (lw_at lw_m7 162 rfl) rfl
theorem q1690 : (Jvm.Cond.instanceMethod ({ cls := "java/lang/ArrayIndexOutOfBoundsException", name := "<init>", desc := "(Ljava/lang/String;)V" } : Jvm.MethodName)) ∈ lw_all := lw_g (lw_at lw_m7 163 rfl) rfl
theorem q1691 : (Jvm.Cond.code ({ cls := "java/lang/ArrayIndexOutOfBoundsException", name := "<init>", desc := "(Ljava/lang/String;)V" } : Jvm.MethodName) prog_29_method_2_code (2 : Nat) (Option.none : Option Jvm.ClassFile.FieldType)) ∈ lw_all := lw_g (lw_at lw_m7 164 rfl) rfl
theorem q1692 : (Jvm.Cond.methodLink "java/lang/ArrayIndexOutOfBoundsException" (7 : Nat) ({ cls := "java/lang/IndexOutOfBoundsException", name := "<init>", desc := "(Ljava/lang/String;)V" } : Jvm.MethodName)) ∈ lw_all := lw_g (lw_at lw_m7 165 rfl) rfl
theorem q1696 : (Jvm.Cond.lays "java/lang/ArrayIndexOutOfBoundsException" "java/lang/Throwable" "backtrace" "Ljava/lang/Object;") ∈ lw_all := lw_g (lw_at lw_m7 169 rfl) rfl
theorem q1697 : (Jvm.Cond.lays "java/lang/ArrayIndexOutOfBoundsException" "java/lang/Throwable" "detailMessage" "Ljava/lang/String;") ∈ lw_all := lw_g (lw_at lw_m7 170 rfl) rfl
theorem q1698 : (Jvm.Cond.lays "java/lang/ArrayIndexOutOfBoundsException" "java/lang/Throwable" "cause" "Ljava/lang/Throwable;") ∈ lw_all := lw_g (lw_at lw_m7 171 rfl) rfl
theorem q1699 : (Jvm.Cond.lays "java/lang/ArrayIndexOutOfBoundsException" "java/lang/Throwable" "stackTrace" "[Ljava/lang/StackTraceElement;") ∈ lw_all := lw_g (lw_at lw_m7 172 rfl) rfl
theorem q1700 : (Jvm.Cond.lays "java/lang/ArrayIndexOutOfBoundsException" "java/lang/Throwable" "depth" "I") ∈ lw_all := lw_g (lw_at lw_m7 173 rfl) rfl
theorem q1701 : (Jvm.Cond.lays "java/lang/ArrayIndexOutOfBoundsException" "java/lang/Throwable" "suppressedExceptions" "Ljava/util/List;") ∈ lw_all := lw_g (lw_at lw_m7 174 rfl) rfl
theorem q1702 : (Jvm.Cond.superclass "java/lang/ArrayIndexOutOfBoundsException" "java/lang/IndexOutOfBoundsException") ∈ lw_all := lw_g (lw_at lw_m7 175 rfl) rfl
theorem q1703 : (Jvm.Cond.castable "java/lang/ArrayIndexOutOfBoundsException" "java/lang/ArrayIndexOutOfBoundsException") ∈ lw_tbl := lw_at lw_m7 176 rfl
theorem q1706 : (Jvm.Cond.selects "java/lang/ArrayIndexOutOfBoundsException" ({ cls := "java/lang/Throwable", name := "fillInStackTrace", desc := "(I)Ljava/lang/Throwable;" } : Jvm.MethodName) ({ cls := "java/lang/Throwable", name := "fillInStackTrace", desc := "(I)Ljava/lang/Throwable;" } : Jvm.MethodName)) ∈ lw_all := lw_g (lw_at lw_m7 179 rfl) rfl
theorem q2549 : (Jvm.Cond.castable "java/lang/ArrayIndexOutOfBoundsException" "java/lang/IndexOutOfBoundsException") ∈ lw_tbl := lw_at lw_m11 62 rfl
theorem q2577 : (Jvm.Cond.castable "java/lang/ArrayIndexOutOfBoundsException" "java/lang/Object") ∈ lw_tbl := lw_at lw_m11 90 rfl
theorem in_J15 : ∀ w ∈ wsJ150, w ∈ lw_all := lw_in wsJ150 [1696, 1697, 1698, 1699, 1700, 1701] (by decide +kernel) (by decide +kernel)
/-! java/lang/Object -/
set_option maxRecDepth 100000
def RJ16 : String := "java/lang/Object"
abbrev cJ16_init : ByteArray := object_method_1_code
def yJ16_init : MethodName := ⟨RJ16, "<init>", "()V"⟩
theorem dJ16_init_0 : decode cJ16_init 0 = .ok (.return_, 1) := by decide +kernel
theorem q133 : (Jvm.Cond.instanceMethod ({ cls := "java/lang/Object", name := "<init>", desc := "()V" } : Jvm.MethodName)) ∈ lw_all := lw_g (lw_at lw_m1 46 rfl) rfl
theorem q134 : (Jvm.Cond.code ({ cls := "java/lang/Object", name := "<init>", desc := "()V" } : Jvm.MethodName) object_method_1_code (1 : Nat) (Option.none : Option Jvm.ClassFile.FieldType)) ∈ lw_all := lw_g (lw_at lw_m1 47 rfl) rfl
theorem q1107 : (Jvm.Cond.instanceMethod ({ cls := "java/lang/Object", name := "getClass", desc := "()Ljava/lang/Class;" } : Jvm.MethodName)) ∈ lw_all := lw_g (lw_at lw_m5 60 rfl) rfl
theorem q1108 : (Jvm.Cond.sameMethod "java/lang/Object" "java/lang/Object" "getClass" "()Ljava/lang/Class;") ∈ lw_all := lw_g (lw_at lw_m5 61 rfl) rfl
theorem q1136 : (Jvm.Cond.native ({ cls := "java/lang/Object", name := "getClass", desc := "()Ljava/lang/Class;" } : Jvm.MethodName)) ∈ lw_all := lw_g (lw_at lw_m5 89 rfl) rfl
theorem q2547 : (Jvm.Cond.initialized "java/lang/Object") ∈ lw_all := lw_g (lw_at lw_m11 60 rfl) rfl
theorem q2582 : (Jvm.Cond.declares ({ cls := "java/lang/Object", name := "getClass", desc := "()Ljava/lang/Class;" } : Jvm.MethodName)) ∈ lw_tbl := lw_at lw_m11 95 rfl
theorem q87 : (Jvm.Cond.initialized "RoomTreesLaw") ∈ lw_all := lw_g (lw_at lw_m1 0 rfl) rfl
set_option maxRecDepth 100000
theorem q127 : (Jvm.Cond.classLink "RoomTreesLaw" (7 : Nat) "RoomTrees") ∈ lw_all := lw_g (lw_at lw_m1 40 rfl) rfl
theorem q129 : (Jvm.Cond.methodLink "RoomTreesLaw" (9 : Nat) ({ cls := "RoomTrees", name := "<init>", desc := "()V" } : Jvm.MethodName)) ∈ lw_all := lw_g (lw_at lw_m1 42 rfl) rfl
theorem q434 : (Jvm.Cond.methodLink "RoomTreesLaw" (13 : Nat) ({ cls := "RoomTrees", name := "vertex", desc := "(I)I" } : Jvm.MethodName)) ∈ lw_all := lw_g (lw_at lw_m2 107 rfl) rfl
theorem q482 : (Jvm.Cond.methodLink "RoomTreesLaw" (18 : Nat) ({ cls := "RoomTrees", name := "weigh", desc := "(II)I" } : Jvm.MethodName)) ∈ lw_all := lw_g (lw_at lw_m2 155 rfl) rfl
theorem q498 : (Jvm.Cond.methodLink "RoomTreesLaw" (23 : Nat) ({ cls := "RoomTrees", name := "tie", desc := "(II)I" } : Jvm.MethodName)) ∈ lw_all := lw_g (lw_at lw_m2 171 rfl) rfl
theorem q528 : (Jvm.Cond.methodLink "RoomTreesLaw" (27 : Nat) ({ cls := "RoomTrees", name := "cut", desc := "(II)I" } : Jvm.MethodName)) ∈ lw_all := lw_g (lw_at lw_m2 201 rfl) rfl
theorem q537 : (Jvm.Cond.methodLink "RoomTreesLaw" (31 : Nat) ({ cls := "RoomTrees", name := "take", desc := "(I)I" } : Jvm.MethodName)) ∈ lw_all := lw_g (lw_at lw_m2 210 rfl) rfl
theorem q546 : (Jvm.Cond.methodLink "RoomTreesLaw" (35 : Nat) ({ cls := "RoomTrees", name := "at", desc := "(II)I" } : Jvm.MethodName)) ∈ lw_all := lw_g (lw_at lw_m2 219 rfl) rfl
theorem q602 : (Jvm.Cond.methodLink "RoomTreesLaw" (39 : Nat) ({ cls := "RoomTrees", name := "table", desc := "(II)I" } : Jvm.MethodName)) ∈ lw_all := lw_g (lw_at lw_m3 35 rfl) rfl
theorem q606 : (Jvm.Cond.methodLink "RoomTreesLaw" (43 : Nat) ({ cls := "RoomTrees", name := "move", desc := "(IIIII)I" } : Jvm.MethodName)) ∈ lw_all := lw_g (lw_at lw_m3 39 rfl) rfl
theorem q666 : (Jvm.Cond.methodLink "RoomTreesLaw" (48 : Nat) ({ cls := "RoomTrees", name := "undo", desc := "()I" } : Jvm.MethodName)) ∈ lw_all := lw_g (lw_at lw_m3 99 rfl) rfl
theorem q670 : (Jvm.Cond.methodLink "RoomTreesLaw" (53 : Nat) ({ cls := "RoomTrees", name := "redo", desc := "()I" } : Jvm.MethodName)) ∈ lw_all := lw_g (lw_at lw_m3 103 rfl) rfl
theorem q674 : (Jvm.Cond.methodLink "RoomTreesLaw" (57 : Nat) ({ cls := "RoomTrees", name := "trail", desc := "(II)I" } : Jvm.MethodName)) ∈ lw_all := lw_g (lw_at lw_m3 107 rfl) rfl
theorem q682 : (Jvm.Cond.methodLink "RoomTreesLaw" (61 : Nat) ({ cls := "RoomTrees", name := "factor", desc := "()I" } : Jvm.MethodName)) ∈ lw_all := lw_g (lw_at lw_m3 115 rfl) rfl
theorem q686 : (Jvm.Cond.methodLink "RoomTreesLaw" (65 : Nat) ({ cls := "RoomTrees", name := "minor", desc := "(I)I" } : Jvm.MethodName)) ∈ lw_all := lw_g (lw_at lw_m3 119 rfl) rfl
theorem q814 : (Jvm.Cond.methodLink "RoomTreesLaw" (69 : Nat) ({ cls := "RoomTrees", name := "det", desc := "()I" } : Jvm.MethodName)) ∈ lw_all := lw_g (lw_at lw_m4 7 rfl) rfl
theorem q818 : (Jvm.Cond.methodLink "RoomTreesLaw" (73 : Nat) ({ cls := "RoomTrees", name := "link", desc := "(III)I" } : Jvm.MethodName)) ∈ lw_all := lw_g (lw_at lw_m4 11 rfl) rfl
theorem q839 : (Jvm.Cond.methodLink "RoomTreesLaw" (78 : Nat) ({ cls := "RoomTrees", name := "inertia", desc := "(I)I" } : Jvm.MethodName)) ∈ lw_all := lw_g (lw_at lw_m4 32 rfl) rfl
theorem q856 : (Jvm.Cond.methodLink "RoomTreesLaw" (82 : Nat) ({ cls := "RoomTrees", name := "kernel", desc := "(I)I" } : Jvm.MethodName)) ∈ lw_all := lw_g (lw_at lw_m4 49 rfl) rfl
theorem q877 : (Jvm.Cond.methodLink "RoomTreesLaw" (86 : Nat) ({ cls := "RoomTrees", name := "wu", desc := "(I)I" } : Jvm.MethodName)) ∈ lw_all := lw_g (lw_at lw_m4 70 rfl) rfl
theorem q889 : (Jvm.Cond.methodLink "RoomTreesLaw" (90 : Nat) ({ cls := "RoomTrees", name := "mu", desc := "()I" } : Jvm.MethodName)) ∈ lw_all := lw_g (lw_at lw_m4 82 rfl) rfl
theorem q897 : (Jvm.Cond.methodLink "RoomTreesLaw" (94 : Nat) ({ cls := "RoomTrees", name := "fraction", desc := "(III)I" } : Jvm.MethodName)) ∈ lw_all := lw_g (lw_at lw_m4 90 rfl) rfl
theorem q901 : (Jvm.Cond.methodLink "RoomTreesLaw" (98 : Nat) ({ cls := "RoomTrees", name := "room", desc := "(II)I" } : Jvm.MethodName)) ∈ lw_all := lw_g (lw_at lw_m4 94 rfl) rfl
theorem q922 : (Jvm.Cond.methodLink "RoomTreesLaw" (102 : Nat) ({ cls := "RoomTrees", name := "oneRoom", desc := "(II)I" } : Jvm.MethodName)) ∈ lw_all := lw_g (lw_at lw_m4 115 rfl) rfl
theorem q926 : (Jvm.Cond.methodLink "RoomTreesLaw" (106 : Nat) ({ cls := "RoomTrees", name := "chain", desc := "(III)I" } : Jvm.MethodName)) ∈ lw_all := lw_g (lw_at lw_m4 119 rfl) rfl
theorem q936 : (Jvm.Cond.methodLink "RoomTreesLaw" (110 : Nat) ({ cls := "RoomTrees", name := "plant", desc := "(II)I" } : Jvm.MethodName)) ∈ lw_all := lw_g (lw_at lw_m4 129 rfl) rfl
theorem q940 : (Jvm.Cond.methodLink "RoomTreesLaw" (116 : Nat) ({ cls := "RoomTrees", name := "feed", desc := "(JI)I" } : Jvm.MethodName)) ∈ lw_all := lw_g (lw_at lw_m4 133 rfl) rfl
theorem q944 : (Jvm.Cond.methodLink "RoomTreesLaw" (121 : Nat) ({ cls := "RoomTrees", name := "forest", desc := "()I" } : Jvm.MethodName)) ∈ lw_all := lw_g (lw_at lw_m4 137 rfl) rfl
theorem q1039 : (Jvm.Cond.methodLink "RoomTreesLaw" (125 : Nat) ({ cls := "RoomTrees", name := "least", desc := "(I)I" } : Jvm.MethodName)) ∈ lw_all := lw_g (lw_at lw_m4 232 rfl) rfl
theorem q1245 : (Jvm.Cond.methodLink "RoomTreesLaw" (129 : Nat) ({ cls := "RoomTrees", name := "keep", desc := "(I)I" } : Jvm.MethodName)) ∈ lw_all := lw_g (lw_at lw_m5 198 rfl) rfl
theorem q1252 : (Jvm.Cond.methodLink "RoomTreesLaw" (133 : Nat) ({ cls := "RoomTrees", name := "fetch", desc := "(I)I" } : Jvm.MethodName)) ∈ lw_all := lw_g (lw_at lw_m5 205 rfl) rfl
theorem q1256 : (Jvm.Cond.methodLink "RoomTreesLaw" (137 : Nat) ({ cls := "RoomTrees", name := "drop", desc := "(I)I" } : Jvm.MethodName)) ∈ lw_all := lw_g (lw_at lw_m5 209 rfl) rfl
theorem q1260 : (Jvm.Cond.methodLink "RoomTreesLaw" (141 : Nat) ({ cls := "RoomTrees", name := "alike", desc := "(I)I" } : Jvm.MethodName)) ∈ lw_all := lw_g (lw_at lw_m5 213 rfl) rfl
theorem q1273 : (Jvm.Cond.methodLink "RoomTreesLaw" (145 : Nat) ({ cls := "RoomTrees", name := "worker", desc := "(II)I" } : Jvm.MethodName)) ∈ lw_all := lw_g (lw_at lw_m5 226 rfl) rfl
theorem q1336 : (Jvm.Cond.methodLink "RoomTreesLaw" (149 : Nat) ({ cls := "RoomTrees", name := "workerIs", desc := "(II)I" } : Jvm.MethodName)) ∈ lw_all := lw_g (lw_at lw_m6 49 rfl) rfl
theorem q1398 : (Jvm.Cond.methodLink "RoomTreesLaw" (153 : Nat) ({ cls := "RoomTrees", name := "become", desc := "(II)I" } : Jvm.MethodName)) ∈ lw_all := lw_g (lw_at lw_m6 111 rfl) rfl
theorem q1402 : (Jvm.Cond.methodLink "RoomTreesLaw" (157 : Nat) ({ cls := "RoomTrees", name := "as", desc := "(II)I" } : Jvm.MethodName)) ∈ lw_all := lw_g (lw_at lw_m6 115 rfl) rfl
theorem q1454 : (Jvm.Cond.methodLink "RoomTreesLaw" (161 : Nat) ({ cls := "RoomTrees", name := "next", desc := "(II)I" } : Jvm.MethodName)) ∈ lw_all := lw_g (lw_at lw_m6 167 rfl) rfl
theorem q1582 : (Jvm.Cond.methodLink "RoomTreesLaw" (165 : Nat) ({ cls := "RoomTrees", name := "work", desc := "(II)I" } : Jvm.MethodName)) ∈ lw_all := lw_g (lw_at lw_m7 55 rfl) rfl
theorem q1587 : (Jvm.Cond.methodLink "RoomTreesLaw" (169 : Nat) ({ cls := "RoomTrees", name := "rest", desc := "(II)I" } : Jvm.MethodName)) ∈ lw_all := lw_g (lw_at lw_m7 60 rfl) rfl
theorem q1600 : (Jvm.Cond.methodLink "RoomTreesLaw" (173 : Nat) ({ cls := "RoomTrees", name := "best", desc := "(I)I" } : Jvm.MethodName)) ∈ lw_all := lw_g (lw_at lw_m7 73 rfl) rfl
theorem q1610 : (Jvm.Cond.methodLink "RoomTreesLaw" (177 : Nat) ({ cls := "RoomTrees", name := "fewest", desc := "(II)I" } : Jvm.MethodName)) ∈ lw_all := lw_g (lw_at lw_m7 83 rfl) rfl
theorem q1619 : (Jvm.Cond.methodLink "RoomTreesLaw" (181 : Nat) ({ cls := "RoomTrees", name := "reach", desc := "(II)I" } : Jvm.MethodName)) ∈ lw_all := lw_g (lw_at lw_m7 92 rfl) rfl
theorem q1627 : (Jvm.Cond.methodLink "RoomTreesLaw" (185 : Nat) ({ cls := "RoomTrees", name := "sheet", desc := "(III)I" } : Jvm.MethodName)) ∈ lw_all := lw_g (lw_at lw_m7 100 rfl) rfl
theorem q1682 : (Jvm.Cond.methodLink "RoomTreesLaw" (189 : Nat) ({ cls := "RoomTrees", name := "put", desc := "(III)I" } : Jvm.MethodName)) ∈ lw_all := lw_g (lw_at lw_m7 155 rfl) rfl
theorem q1729 : (Jvm.Cond.methodLink "RoomTreesLaw" (193 : Nat) ({ cls := "RoomTrees", name := "number", desc := "(II)I" } : Jvm.MethodName)) ∈ lw_all := lw_g (lw_at lw_m7 202 rfl) rfl
theorem q1752 : (Jvm.Cond.methodLink "RoomTreesLaw" (197 : Nat) ({ cls := "RoomTrees", name := "copy", desc := "(IIIII)I" } : Jvm.MethodName)) ∈ lw_all := lw_g (lw_at lw_m7 225 rfl) rfl
theorem q1796 : (Jvm.Cond.methodLink "RoomTreesLaw" (201 : Nat) ({ cls := "RoomTrees", name := "weighAll", desc := "(I)I" } : Jvm.MethodName)) ∈ lw_all := lw_g (lw_at lw_m8 29 rfl) rfl
theorem q1823 : (Jvm.Cond.methodLink "RoomTreesLaw" (205 : Nat) ({ cls := "RoomTrees", name := "book", desc := "(I)I" } : Jvm.MethodName)) ∈ lw_all := lw_g (lw_at lw_m8 56 rfl) rfl
theorem q1827 : (Jvm.Cond.methodLink "RoomTreesLaw" (209 : Nat) ({ cls := "RoomTrees", name := "plays", desc := "(II)I" } : Jvm.MethodName)) ∈ lw_all := lw_g (lw_at lw_m8 60 rfl) rfl
theorem q1835 : (Jvm.Cond.methodLink "RoomTreesLaw" (213 : Nat) ({ cls := "RoomTrees", name := "image", desc := "()I" } : Jvm.MethodName)) ∈ lw_all := lw_g (lw_at lw_m8 68 rfl) rfl
theorem q1843 : (Jvm.Cond.methodLink "RoomTreesLaw" (217 : Nat) ({ cls := "RoomTrees", name := "restore", desc := "()I" } : Jvm.MethodName)) ∈ lw_all := lw_g (lw_at lw_m8 76 rfl) rfl
theorem q1847 : (Jvm.Cond.methodLink "RoomTreesLaw" (221 : Nat) ({ cls := "RoomTrees", name := "count", desc := "(I)I" } : Jvm.MethodName)) ∈ lw_all := lw_g (lw_at lw_m8 80 rfl) rfl
theorem q1863 : (Jvm.Cond.methodLink "RoomTreesLaw" (225 : Nat) ({ cls := "RoomTrees", name := "told", desc := "(I)I" } : Jvm.MethodName)) ∈ lw_all := lw_g (lw_at lw_m8 96 rfl) rfl
theorem q1867 : (Jvm.Cond.classLink "RoomTreesLaw" (10 : Nat) "RoomTreesModel") ∈ lw_all := lw_g (lw_at lw_m8 100 rfl) rfl
theorem q1869 : (Jvm.Cond.methodLink "RoomTreesLaw" (12 : Nat) ({ cls := "RoomTreesModel", name := "<init>", desc := "()V" } : Jvm.MethodName)) ∈ lw_all := lw_g (lw_at lw_m8 102 rfl) rfl
theorem q1996 : (Jvm.Cond.methodLink "RoomTreesLaw" (47 : Nat) ({ cls := "RoomTreesModel", name := "move", desc := "(IIIII)I" } : Jvm.MethodName)) ∈ lw_all := lw_g (lw_at lw_m8 229 rfl) rfl
theorem q2086 : (Jvm.Cond.methodLink "RoomTreesLaw" (52 : Nat) ({ cls := "RoomTreesModel", name := "undo", desc := "()I" } : Jvm.MethodName)) ∈ lw_all := lw_g (lw_at lw_m9 79 rfl) rfl
theorem q2090 : (Jvm.Cond.methodLink "RoomTreesLaw" (56 : Nat) ({ cls := "RoomTreesModel", name := "redo", desc := "()I" } : Jvm.MethodName)) ∈ lw_all := lw_g (lw_at lw_m9 83 rfl) rfl
theorem q2094 : (Jvm.Cond.methodLink "RoomTreesLaw" (60 : Nat) ({ cls := "RoomTreesModel", name := "trail", desc := "(II)I" } : Jvm.MethodName)) ∈ lw_all := lw_g (lw_at lw_m9 87 rfl) rfl
theorem q2099 : (Jvm.Cond.methodLink "RoomTreesLaw" (64 : Nat) ({ cls := "RoomTreesModel", name := "factor", desc := "()I" } : Jvm.MethodName)) ∈ lw_all := lw_g (lw_at lw_m9 92 rfl) rfl
theorem q2103 : (Jvm.Cond.methodLink "RoomTreesLaw" (17 : Nat) ({ cls := "RoomTreesModel", name := "vertex", desc := "(I)I" } : Jvm.MethodName)) ∈ lw_all := lw_g (lw_at lw_m9 96 rfl) rfl
theorem q2111 : (Jvm.Cond.methodLink "RoomTreesLaw" (22 : Nat) ({ cls := "RoomTreesModel", name := "weigh", desc := "(II)I" } : Jvm.MethodName)) ∈ lw_all := lw_g (lw_at lw_m9 104 rfl) rfl
theorem q2119 : (Jvm.Cond.methodLink "RoomTreesLaw" (26 : Nat) ({ cls := "RoomTreesModel", name := "tie", desc := "(II)I" } : Jvm.MethodName)) ∈ lw_all := lw_g (lw_at lw_m9 112 rfl) rfl
theorem q2129 : (Jvm.Cond.methodLink "RoomTreesLaw" (30 : Nat) ({ cls := "RoomTreesModel", name := "cut", desc := "(II)I" } : Jvm.MethodName)) ∈ lw_all := lw_g (lw_at lw_m9 122 rfl) rfl
theorem q2133 : (Jvm.Cond.methodLink "RoomTreesLaw" (34 : Nat) ({ cls := "RoomTreesModel", name := "take", desc := "(I)I" } : Jvm.MethodName)) ∈ lw_all := lw_g (lw_at lw_m9 126 rfl) rfl
theorem q2137 : (Jvm.Cond.methodLink "RoomTreesLaw" (38 : Nat) ({ cls := "RoomTreesModel", name := "at", desc := "(II)I" } : Jvm.MethodName)) ∈ lw_all := lw_g (lw_at lw_m9 130 rfl) rfl
theorem q2150 : (Jvm.Cond.methodLink "RoomTreesLaw" (42 : Nat) ({ cls := "RoomTreesModel", name := "table", desc := "(II)I" } : Jvm.MethodName)) ∈ lw_all := lw_g (lw_at lw_m9 143 rfl) rfl
theorem q2158 : (Jvm.Cond.methodLink "RoomTreesLaw" (68 : Nat) ({ cls := "RoomTreesModel", name := "minor", desc := "(I)I" } : Jvm.MethodName)) ∈ lw_all := lw_g (lw_at lw_m9 151 rfl) rfl
theorem q2177 : (Jvm.Cond.methodLink "RoomTreesLaw" (72 : Nat) ({ cls := "RoomTreesModel", name := "det", desc := "()I" } : Jvm.MethodName)) ∈ lw_all := lw_g (lw_at lw_m9 170 rfl) rfl
theorem q2181 : (Jvm.Cond.methodLink "RoomTreesLaw" (77 : Nat) ({ cls := "RoomTreesModel", name := "link", desc := "(III)I" } : Jvm.MethodName)) ∈ lw_all := lw_g (lw_at lw_m9 174 rfl) rfl
theorem q2198 : (Jvm.Cond.methodLink "RoomTreesLaw" (81 : Nat) ({ cls := "RoomTreesModel", name := "inertia", desc := "(I)I" } : Jvm.MethodName)) ∈ lw_all := lw_g (lw_at lw_m9 191 rfl) rfl
theorem q2219 : (Jvm.Cond.methodLink "RoomTreesLaw" (85 : Nat) ({ cls := "RoomTreesModel", name := "kernel", desc := "(I)I" } : Jvm.MethodName)) ∈ lw_all := lw_g (lw_at lw_m9 212 rfl) rfl
theorem q2237 : (Jvm.Cond.methodLink "RoomTreesLaw" (89 : Nat) ({ cls := "RoomTreesModel", name := "wu", desc := "(I)I" } : Jvm.MethodName)) ∈ lw_all := lw_g (lw_at lw_m9 230 rfl) rfl
theorem q2253 : (Jvm.Cond.methodLink "RoomTreesLaw" (93 : Nat) ({ cls := "RoomTreesModel", name := "mu", desc := "()I" } : Jvm.MethodName)) ∈ lw_all := lw_g (lw_at lw_m10 6 rfl) rfl
theorem q2257 : (Jvm.Cond.methodLink "RoomTreesLaw" (97 : Nat) ({ cls := "RoomTreesModel", name := "fraction", desc := "(III)I" } : Jvm.MethodName)) ∈ lw_all := lw_g (lw_at lw_m10 10 rfl) rfl
theorem q2265 : (Jvm.Cond.methodLink "RoomTreesLaw" (101 : Nat) ({ cls := "RoomTreesModel", name := "room", desc := "(II)I" } : Jvm.MethodName)) ∈ lw_all := lw_g (lw_at lw_m10 18 rfl) rfl
theorem q2284 : (Jvm.Cond.methodLink "RoomTreesLaw" (105 : Nat) ({ cls := "RoomTreesModel", name := "oneRoom", desc := "(II)I" } : Jvm.MethodName)) ∈ lw_all := lw_g (lw_at lw_m10 37 rfl) rfl
theorem q2288 : (Jvm.Cond.methodLink "RoomTreesLaw" (109 : Nat) ({ cls := "RoomTreesModel", name := "chain", desc := "(III)I" } : Jvm.MethodName)) ∈ lw_all := lw_g (lw_at lw_m10 41 rfl) rfl
theorem q2299 : (Jvm.Cond.methodLink "RoomTreesLaw" (113 : Nat) ({ cls := "RoomTreesModel", name := "plant", desc := "(II)I" } : Jvm.MethodName)) ∈ lw_all := lw_g (lw_at lw_m10 52 rfl) rfl
theorem q2303 : (Jvm.Cond.methodLink "RoomTreesLaw" (120 : Nat) ({ cls := "RoomTreesModel", name := "feed", desc := "(JI)I" } : Jvm.MethodName)) ∈ lw_all := lw_g (lw_at lw_m10 56 rfl) rfl
theorem q2309 : (Jvm.Cond.methodLink "RoomTreesLaw" (124 : Nat) ({ cls := "RoomTreesModel", name := "forest", desc := "()I" } : Jvm.MethodName)) ∈ lw_all := lw_g (lw_at lw_m10 62 rfl) rfl
theorem q2338 : (Jvm.Cond.methodLink "RoomTreesLaw" (128 : Nat) ({ cls := "RoomTreesModel", name := "least", desc := "(I)I" } : Jvm.MethodName)) ∈ lw_all := lw_g (lw_at lw_m10 91 rfl) rfl
theorem q2360 : (Jvm.Cond.methodLink "RoomTreesLaw" (132 : Nat) ({ cls := "RoomTreesModel", name := "keep", desc := "(I)I" } : Jvm.MethodName)) ∈ lw_all := lw_g (lw_at lw_m10 113 rfl) rfl
theorem q2367 : (Jvm.Cond.methodLink "RoomTreesLaw" (136 : Nat) ({ cls := "RoomTreesModel", name := "fetch", desc := "(I)I" } : Jvm.MethodName)) ∈ lw_all := lw_g (lw_at lw_m10 120 rfl) rfl
theorem q2371 : (Jvm.Cond.methodLink "RoomTreesLaw" (140 : Nat) ({ cls := "RoomTreesModel", name := "drop", desc := "(I)I" } : Jvm.MethodName)) ∈ lw_all := lw_g (lw_at lw_m10 124 rfl) rfl
theorem q2375 : (Jvm.Cond.methodLink "RoomTreesLaw" (144 : Nat) ({ cls := "RoomTreesModel", name := "alike", desc := "(I)I" } : Jvm.MethodName)) ∈ lw_all := lw_g (lw_at lw_m10 128 rfl) rfl
theorem q2387 : (Jvm.Cond.methodLink "RoomTreesLaw" (148 : Nat) ({ cls := "RoomTreesModel", name := "worker", desc := "(II)I" } : Jvm.MethodName)) ∈ lw_all := lw_g (lw_at lw_m10 140 rfl) rfl
theorem q2392 : (Jvm.Cond.methodLink "RoomTreesLaw" (152 : Nat) ({ cls := "RoomTreesModel", name := "workerIs", desc := "(II)I" } : Jvm.MethodName)) ∈ lw_all := lw_g (lw_at lw_m10 145 rfl) rfl
theorem q2403 : (Jvm.Cond.methodLink "RoomTreesLaw" (156 : Nat) ({ cls := "RoomTreesModel", name := "become", desc := "(II)I" } : Jvm.MethodName)) ∈ lw_all := lw_g (lw_at lw_m10 156 rfl) rfl
theorem q2407 : (Jvm.Cond.methodLink "RoomTreesLaw" (160 : Nat) ({ cls := "RoomTreesModel", name := "as", desc := "(II)I" } : Jvm.MethodName)) ∈ lw_all := lw_g (lw_at lw_m10 160 rfl) rfl
theorem q2411 : (Jvm.Cond.methodLink "RoomTreesLaw" (164 : Nat) ({ cls := "RoomTreesModel", name := "next", desc := "(II)I" } : Jvm.MethodName)) ∈ lw_all := lw_g (lw_at lw_m10 164 rfl) rfl
theorem q2421 : (Jvm.Cond.methodLink "RoomTreesLaw" (168 : Nat) ({ cls := "RoomTreesModel", name := "work", desc := "(II)I" } : Jvm.MethodName)) ∈ lw_all := lw_g (lw_at lw_m10 174 rfl) rfl
theorem q2426 : (Jvm.Cond.methodLink "RoomTreesLaw" (172 : Nat) ({ cls := "RoomTreesModel", name := "rest", desc := "(II)I" } : Jvm.MethodName)) ∈ lw_all := lw_g (lw_at lw_m10 179 rfl) rfl
theorem q2437 : (Jvm.Cond.methodLink "RoomTreesLaw" (176 : Nat) ({ cls := "RoomTreesModel", name := "best", desc := "(I)I" } : Jvm.MethodName)) ∈ lw_all := lw_g (lw_at lw_m10 190 rfl) rfl
theorem q2441 : (Jvm.Cond.methodLink "RoomTreesLaw" (180 : Nat) ({ cls := "RoomTreesModel", name := "fewest", desc := "(II)I" } : Jvm.MethodName)) ∈ lw_all := lw_g (lw_at lw_m10 194 rfl) rfl
theorem q2449 : (Jvm.Cond.methodLink "RoomTreesLaw" (184 : Nat) ({ cls := "RoomTreesModel", name := "reach", desc := "(II)I" } : Jvm.MethodName)) ∈ lw_all := lw_g (lw_at lw_m10 202 rfl) rfl
theorem q2457 : (Jvm.Cond.methodLink "RoomTreesLaw" (188 : Nat) ({ cls := "RoomTreesModel", name := "sheet", desc := "(III)I" } : Jvm.MethodName)) ∈ lw_all := lw_g (lw_at lw_m10 210 rfl) rfl
theorem q2461 : (Jvm.Cond.methodLink "RoomTreesLaw" (192 : Nat) ({ cls := "RoomTreesModel", name := "put", desc := "(III)I" } : Jvm.MethodName)) ∈ lw_all := lw_g (lw_at lw_m10 214 rfl) rfl
theorem q2473 : (Jvm.Cond.methodLink "RoomTreesLaw" (196 : Nat) ({ cls := "RoomTreesModel", name := "number", desc := "(II)I" } : Jvm.MethodName)) ∈ lw_all := lw_g (lw_at lw_m10 226 rfl) rfl
theorem q2477 : (Jvm.Cond.methodLink "RoomTreesLaw" (200 : Nat) ({ cls := "RoomTreesModel", name := "copy", desc := "(IIIII)I" } : Jvm.MethodName)) ∈ lw_all := lw_g (lw_at lw_m10 230 rfl) rfl
theorem q2481 : (Jvm.Cond.methodLink "RoomTreesLaw" (204 : Nat) ({ cls := "RoomTreesModel", name := "weighAll", desc := "(I)I" } : Jvm.MethodName)) ∈ lw_all := lw_g (lw_at lw_m10 234 rfl) rfl
theorem q2489 : (Jvm.Cond.methodLink "RoomTreesLaw" (208 : Nat) ({ cls := "RoomTreesModel", name := "book", desc := "(I)I" } : Jvm.MethodName)) ∈ lw_all := lw_g (lw_at lw_m11 2 rfl) rfl
theorem q2493 : (Jvm.Cond.methodLink "RoomTreesLaw" (212 : Nat) ({ cls := "RoomTreesModel", name := "plays", desc := "(II)I" } : Jvm.MethodName)) ∈ lw_all := lw_g (lw_at lw_m11 6 rfl) rfl
theorem q2498 : (Jvm.Cond.methodLink "RoomTreesLaw" (216 : Nat) ({ cls := "RoomTreesModel", name := "image", desc := "()I" } : Jvm.MethodName)) ∈ lw_all := lw_g (lw_at lw_m11 11 rfl) rfl
theorem q2502 : (Jvm.Cond.methodLink "RoomTreesLaw" (220 : Nat) ({ cls := "RoomTreesModel", name := "restore", desc := "()I" } : Jvm.MethodName)) ∈ lw_all := lw_g (lw_at lw_m11 15 rfl) rfl
theorem q2506 : (Jvm.Cond.methodLink "RoomTreesLaw" (224 : Nat) ({ cls := "RoomTreesModel", name := "count", desc := "(I)I" } : Jvm.MethodName)) ∈ lw_all := lw_g (lw_at lw_m11 19 rfl) rfl
theorem q2522 : (Jvm.Cond.methodLink "RoomTreesLaw" (228 : Nat) ({ cls := "RoomTreesModel", name := "told", desc := "(I)I" } : Jvm.MethodName)) ∈ lw_all := lw_g (lw_at lw_m11 35 rfl) rfl
theorem q2526 : (Jvm.Cond.constantLong "RoomTreesLaw" (114 : Nat) (4294967295 : Int64)) ∈ lw_all := lw_g (lw_at lw_m11 39 rfl) rfl
theorem q1463 : (Jvm.Cond.interfaceMethod "RoomTrees$Chooses" "RoomTrees$Chooses" "chooses" "(LRoomTrees$Forest;)I") ∈ lw_tbl := lw_at lw_m6 176 rfl
set_option maxRecDepth 100000
theorem q1464 : (Jvm.Cond.declares ({ cls := "RoomTrees$Chooses", name := "chooses", desc := "(LRoomTrees$Forest;)I" } : Jvm.MethodName)) ∈ lw_tbl := lw_at lw_m6 177 rfl
theorem q1709 : (Jvm.Cond.interfaceMethod "RoomTrees$Row" "RoomTrees$Row" "puts" "(II)V") ∈ lw_tbl := lw_at lw_m7 182 rfl
set_option maxRecDepth 100000
theorem q1710 : (Jvm.Cond.declares ({ cls := "RoomTrees$Row", name := "puts", desc := "(II)V" } : Jvm.MethodName)) ∈ lw_tbl := lw_at lw_m7 183 rfl
theorem q1735 : (Jvm.Cond.interfaceMethod "RoomTrees$Row" "RoomTrees$Row" "number" "(I)I") ∈ lw_tbl := lw_at lw_m7 208 rfl
theorem q1736 : (Jvm.Cond.declares ({ cls := "RoomTrees$Row", name := "number", desc := "(I)I" } : Jvm.MethodName)) ∈ lw_tbl := lw_at lw_m7 209 rfl
theorem q1759 : (Jvm.Cond.interfaceMethod "RoomTrees$Row" "RoomTrees$Row" "bits" "()I") ∈ lw_tbl := lw_at lw_m7 232 rfl
theorem q1760 : (Jvm.Cond.declares ({ cls := "RoomTrees$Row", name := "bits", desc := "()I" } : Jvm.MethodName)) ∈ lw_tbl := lw_at lw_m7 233 rfl
theorem q1778 : (Jvm.Cond.interfaceMethod "RoomTrees$Row" "RoomTrees$Row" "held" "()Ljava/lang/Object;") ∈ lw_tbl := lw_at lw_m8 11 rfl
theorem q1779 : (Jvm.Cond.declares ({ cls := "RoomTrees$Row", name := "held", desc := "()Ljava/lang/Object;" } : Jvm.MethodName)) ∈ lw_tbl := lw_at lw_m8 12 rfl
theorem q1806 : (Jvm.Cond.interfaceMethod "RoomTrees$Row" "RoomTrees$Row" "length" "()I") ∈ lw_tbl := lw_at lw_m8 39 rfl
theorem q1807 : (Jvm.Cond.declares ({ cls := "RoomTrees$Row", name := "length", desc := "()I" } : Jvm.MethodName)) ∈ lw_tbl := lw_at lw_m8 40 rfl
theorem q2557 : (Jvm.Cond.castable "RoomTrees$Row" "java/lang/Object") ∈ lw_tbl := lw_at lw_m11 70 rfl
theorem q2593 : (Jvm.Cond.castable "[B" "java/lang/Object") ∈ lw_tbl := lw_at lw_m11 106 rfl
set_option maxRecDepth 100000
theorem q2595 : (Jvm.Cond.castable "[I" "java/lang/Object") ∈ lw_tbl := lw_at lw_m11 108 rfl
set_option maxRecDepth 100000
theorem q2584 : (Jvm.Cond.castable "[J" "java/lang/Object") ∈ lw_tbl := lw_at lw_m11 97 rfl
set_option maxRecDepth 100000
theorem q2591 : (Jvm.Cond.castable "[LRoomTrees$Branch;" "java/lang/Object") ∈ lw_tbl := lw_at lw_m11 104 rfl
set_option maxRecDepth 100000
theorem q2585 : (Jvm.Cond.castable "[LRoomTrees$Forest;" "java/lang/Object") ∈ lw_tbl := lw_at lw_m11 98 rfl
set_option maxRecDepth 100000
theorem q2586 : (Jvm.Cond.castable "[LRoomTrees$Note;" "java/lang/Object") ∈ lw_tbl := lw_at lw_m11 99 rfl
set_option maxRecDepth 100000
theorem q2588 : (Jvm.Cond.castable "[LRoomTrees$Outcome;" "java/lang/Object") ∈ lw_tbl := lw_at lw_m11 101 rfl
set_option maxRecDepth 100000
theorem q2594 : (Jvm.Cond.castable "[LRoomTrees$Row;" "java/lang/Object") ∈ lw_tbl := lw_at lw_m11 107 rfl
set_option maxRecDepth 100000
theorem q2583 : (Jvm.Cond.castable "[LRoomTrees$Vertex;" "java/lang/Object") ∈ lw_tbl := lw_at lw_m11 96 rfl
set_option maxRecDepth 100000
theorem q2587 : (Jvm.Cond.castable "[LRoomTrees$Worker;" "java/lang/Object") ∈ lw_tbl := lw_at lw_m11 100 rfl
set_option maxRecDepth 100000
theorem q2592 : (Jvm.Cond.castable "[LRoomTrees$Written;" "java/lang/Object") ∈ lw_tbl := lw_at lw_m11 105 rfl
set_option maxRecDepth 100000
theorem q2580 : (Jvm.Cond.sameMethod "[Ljava/lang/Object;" "java/lang/Object" "getClass" "()Ljava/lang/Class;") ∈ lw_all := lw_g (lw_at lw_m11 93 rfl) rfl
set_option maxRecDepth 100000
theorem q2581 : (Jvm.Cond.selects "[Ljava/lang/Object;" ({ cls := "java/lang/Object", name := "getClass", desc := "()Ljava/lang/Class;" } : Jvm.MethodName) ({ cls := "java/lang/Object", name := "getClass", desc := "()Ljava/lang/Class;" } : Jvm.MethodName)) ∈ lw_all := lw_g (lw_at lw_m11 94 rfl) rfl
theorem q2590 : (Jvm.Cond.castable "[Ljava/lang/Object;" "java/lang/Object") ∈ lw_tbl := lw_at lw_m11 103 rfl
theorem q2596 : (Jvm.Cond.castable "[S" "java/lang/Object") ∈ lw_tbl := lw_at lw_m11 109 rfl
set_option maxRecDepth 100000
theorem q2589 : (Jvm.Cond.castable "[Z" "java/lang/Object") ∈ lw_tbl := lw_at lw_m11 102 rfl
set_option maxRecDepth 100000
theorem q2597 : (Jvm.Cond.castable "[[I" "java/lang/Object") ∈ lw_tbl := lw_at lw_m11 110 rfl
set_option maxRecDepth 100000
theorem q1174 : (Jvm.Cond.interfaceMethod "java/lang/Comparable" "java/lang/Comparable" "compareTo" "(Ljava/lang/Object;)I") ∈ lw_tbl := lw_at lw_m5 127 rfl
set_option maxRecDepth 100000
theorem q1175 : (Jvm.Cond.declares ({ cls := "java/lang/Comparable", name := "compareTo", desc := "(Ljava/lang/Object;)I" } : Jvm.MethodName)) ∈ lw_tbl := lw_at lw_m5 128 rfl
theorem q114 : (Jvm.Cond.initialized "java/lang/System") ∈ lw_all := lw_g (lw_at lw_m1 27 rfl) rfl
set_option maxRecDepth 100000
theorem q1144 : (Jvm.Cond.static ({ cls := "java/lang/System", name := "arraycopy", desc := "(Ljava/lang/Object;ILjava/lang/Object;II)V" } : Jvm.MethodName)) ∈ lw_all := lw_g (lw_at lw_m5 97 rfl) rfl
theorem q1145 : (Jvm.Cond.native ({ cls := "java/lang/System", name := "arraycopy", desc := "(Ljava/lang/Object;ILjava/lang/Object;II)V" } : Jvm.MethodName)) ∈ lw_all := lw_g (lw_at lw_m5 98 rfl) rfl
theorem q1155 : (Jvm.Cond.interfaceMethod "java/util/Comparator" "java/util/Comparator" "compare" "(Ljava/lang/Object;Ljava/lang/Object;)I") ∈ lw_tbl := lw_at lw_m5 108 rfl
set_option maxRecDepth 100000
theorem q1156 : (Jvm.Cond.declares ({ cls := "java/util/Comparator", name := "compare", desc := "(Ljava/lang/Object;Ljava/lang/Object;)I" } : Jvm.MethodName)) ∈ lw_tbl := lw_at lw_m5 109 rfl
theorem q142 : (Jvm.Cond.arrayOver (Jvm.ClassFile.FieldType.object "RoomTrees$Vertex")) ∈ lw_tbl := lw_at lw_m1 55 rfl
set_option maxRecDepth 100000
theorem q158 : (Jvm.Cond.arrayClass Jvm.ClassFile.FieldType.long) ∈ lw_all := lw_g (lw_at lw_m1 71 rfl) rfl
theorem q194 : (Jvm.Cond.arrayOver (Jvm.ClassFile.FieldType.object "RoomTrees$Forest")) ∈ lw_tbl := lw_at lw_m1 107 rfl
theorem q196 : (Jvm.Cond.arrayOver (Jvm.ClassFile.FieldType.object "RoomTrees$Note")) ∈ lw_tbl := lw_at lw_m1 109 rfl
theorem q198 : (Jvm.Cond.arrayOver (Jvm.ClassFile.FieldType.object "RoomTrees$Worker")) ∈ lw_tbl := lw_at lw_m1 111 rfl
theorem q200 : (Jvm.Cond.arrayOver (Jvm.ClassFile.FieldType.object "RoomTrees$Outcome")) ∈ lw_tbl := lw_at lw_m1 113 rfl
theorem q210 : (Jvm.Cond.arrayClass Jvm.ClassFile.FieldType.boolean) ∈ lw_all := lw_g (lw_at lw_m1 123 rfl) rfl
theorem q222 : (Jvm.Cond.arrayOver (Jvm.ClassFile.FieldType.object "java/lang/Object")) ∈ lw_tbl := lw_at lw_m1 135 rfl
theorem q243 : (Jvm.Cond.arrayOver (Jvm.ClassFile.FieldType.object "RoomTrees$Branch")) ∈ lw_tbl := lw_at lw_m1 156 rfl
theorem q245 : (Jvm.Cond.arrayOver (Jvm.ClassFile.FieldType.object "RoomTrees$Written")) ∈ lw_tbl := lw_at lw_m1 158 rfl
theorem q267 : (Jvm.Cond.arrayClass Jvm.ClassFile.FieldType.byte) ∈ lw_all := lw_g (lw_at lw_m1 180 rfl) rfl
theorem q299 : (Jvm.Cond.arrayOver (Jvm.ClassFile.FieldType.object "RoomTrees$Row")) ∈ lw_tbl := lw_at lw_m1 212 rfl
theorem q325 : (Jvm.Cond.arrayClass Jvm.ClassFile.FieldType.int) ∈ lw_all := lw_g (lw_at lw_m1 238 rfl) rfl
theorem q1671 : (Jvm.Cond.arrayClass Jvm.ClassFile.FieldType.short) ∈ lw_all := lw_g (lw_at lw_m7 144 rfl) rfl
theorem q1874 : (Jvm.Cond.arrayOver (Jvm.ClassFile.FieldType.array Jvm.ClassFile.FieldType.int)) ∈ lw_tbl := lw_at lw_m8 107 rfl
