set_option maxRecDepth 100000
/-! DECODE ROWS BY BYTES: one lemma an opcode; a method's code is cut into short pieces once, and a row reads its own piece alone. -/
set_option maxRecDepth 100000
/-- the code has just these bytes from pc on -/
def DkAt (code : ByteArray) (pc : Nat) (bs : List UInt8) : Prop := ∀ (j : Nat) (b : UInt8), bs[j]? = some b → code.data.toList[pc + j]? = some b
/-- the piece W has the bytes bs from its place j on -/
def dkIn (W : List UInt8) (j : Nat) (bs : List UInt8) : Bool := decide ((W.drop j).take bs.length = bs)
theorem dk_seg {l W T : List UInt8} {o o2 : Nat} (h : l.drop o = W ++ T) (n : Nat) (hn : W.length = n) (ho : o + n = o2) : l.drop o2 = T := by
  subst ho
  rw [← List.drop_drop, h, List.drop_left' hn]
theorem dk_at {code : ByteArray} {W T bs : List UInt8} {o pc : Nat} (h : code.data.toList.drop o = W ++ T) (j : Nat) (hp : o + j = pc) (hw : dkIn W j bs = true) : DkAt code pc bs := by
  subst hp
  intro i b e
  have h1 := of_decide_eq_true hw
  have h2 : i < bs.length := (List.getElem?_eq_some_iff.mp e).1
  have h3 : W[j + i]? = some b := by
    rw [← h1, List.getElem?_take, if_pos h2, List.getElem?_drop] at e
    exact e
  have h4 : j + i < W.length := (List.getElem?_eq_some_iff.mp h3).1
  have h5 : (code.data.toList.drop o)[j + i]? = some b := by
    rw [h, List.getElem?_append_left h4]
    exact h3
  rw [List.getElem?_drop, ← Nat.add_assoc] at h5
  exact h5
theorem dk_u1 {A : ByteArray} {p : Nat} {b : UInt8} (h : A.data.toList[p]? = some b) : (Reader.u1 : Reader DecodeError Nat) A p = .ok (b.toNat, p + 1) := by
  obtain ⟨h1, h2⟩ := List.getElem?_eq_some_iff.mp h
  have h3 : p < A.size := by simpa using h1
  have h4 : A[p]'h3 = b := h2
  have e : (Reader.u1 : Reader DecodeError Nat) A p = (if h : p < A.size then .ok (A[p].toNat, p + 1) else .error (HasTruncated.truncated p)) := by
    show (do if h : p < A.size then do set (p + 1); Pure.pure A[p].toNat else MonadExcept.throw (HasTruncated.truncated p) : Reader DecodeError Nat) A p = _
    by_cases hi : p < A.size
    · rw [dif_pos hi, dif_pos hi]; rfl
    · rw [dif_neg hi, dif_neg hi]; rfl
  rw [e, dif_pos h3, h4]
theorem dk_bind {α β : Type} {r : Reader DecodeError α} {f : α → Reader DecodeError β} {A : ByteArray} {p s : Nat} {a : α} (h : r A p = .ok (a, s)) : (r >>= f) A p = f a A s := by
  show (do let (a, s) ← r A p; f a A s : Except DecodeError (β × Nat)) = _
  rw [h]
  rfl
theorem dk_map {α β : Type} {r : Reader DecodeError α} {g : α → β} {A : ByteArray} {p s : Nat} {a : α} (h : r A p = .ok (a, s)) : (g <$> r) A p = .ok (g a, s) := by
  show (do let (a, s) ← r A p; .ok (g a, s) : Except DecodeError (β × Nat)) = _
  rw [h]
  rfl
theorem dk_u2 {A : ByteArray} {p : Nat} {a b : UInt8} (h : A.data.toList[p]? = some a) (h2 : A.data.toList[p + 1]? = some b) : (Reader.u2 : Reader DecodeError Nat) A p = .ok (a.toNat * 256 + b.toNat, p + 2) := by
  show (Reader.u1 >>= fun hi => Reader.u1 >>= fun lo => Pure.pure (hi * 256 + lo) : Reader DecodeError Nat) A p = _
  rw [dk_bind (dk_u1 h), dk_bind (dk_u1 h2)]
  rfl
theorem dk_of {code : ByteArray} {pc n : Nat} {i : Instr} (h : Decoder.instr pc code pc = .ok (i, pc + n)) : decode code pc = .ok (i, n) := by
  have e : decode code pc = (match Decoder.instr pc code pc with | .error x => .error x | .ok (j, s) => .ok (j, s - pc)) := by
    show (do let (j, s) ← Decoder.instr pc code pc; Pure.pure (j, s - pc) : Except DecodeError (Instr × Nat)) = _
    cases Decoder.instr pc code pc <;> rfl
  rw [e, h]
  show Except.ok (i, pc + n - pc) = _
  rw [Nat.add_sub_cancel_left]
theorem dk_1 {code : ByteArray} {pc : Nat} (h : DkAt code pc [1]) : decode code pc = .ok (.aconst_null, 1) := dk_of ((dk_bind (dk_u1 (h 0 _ rfl))).trans rfl)
theorem dk_2 {code : ByteArray} {pc : Nat} (h : DkAt code pc [2]) : decode code pc = .ok (.iconst (-1), 1) := dk_of ((dk_bind (dk_u1 (h 0 _ rfl))).trans rfl)
theorem dk_3 {code : ByteArray} {pc : Nat} (h : DkAt code pc [3]) : decode code pc = .ok (.iconst 0, 1) := dk_of ((dk_bind (dk_u1 (h 0 _ rfl))).trans rfl)
theorem dk_4 {code : ByteArray} {pc : Nat} (h : DkAt code pc [4]) : decode code pc = .ok (.iconst 1, 1) := dk_of ((dk_bind (dk_u1 (h 0 _ rfl))).trans rfl)
theorem dk_5 {code : ByteArray} {pc : Nat} (h : DkAt code pc [5]) : decode code pc = .ok (.iconst 2, 1) := dk_of ((dk_bind (dk_u1 (h 0 _ rfl))).trans rfl)
theorem dk_6 {code : ByteArray} {pc : Nat} (h : DkAt code pc [6]) : decode code pc = .ok (.iconst 3, 1) := dk_of ((dk_bind (dk_u1 (h 0 _ rfl))).trans rfl)
theorem dk_7 {code : ByteArray} {pc : Nat} (h : DkAt code pc [7]) : decode code pc = .ok (.iconst 4, 1) := dk_of ((dk_bind (dk_u1 (h 0 _ rfl))).trans rfl)
theorem dk_8 {code : ByteArray} {pc : Nat} (h : DkAt code pc [8]) : decode code pc = .ok (.iconst 5, 1) := dk_of ((dk_bind (dk_u1 (h 0 _ rfl))).trans rfl)
theorem dk_9 {code : ByteArray} {pc : Nat} (h : DkAt code pc [9]) : decode code pc = .ok (.lconst 0, 1) := dk_of ((dk_bind (dk_u1 (h 0 _ rfl))).trans rfl)
theorem dk_10 {code : ByteArray} {pc : Nat} (h : DkAt code pc [10]) : decode code pc = .ok (.lconst 1, 1) := dk_of ((dk_bind (dk_u1 (h 0 _ rfl))).trans rfl)
theorem dk_16 {code : ByteArray} {pc : Nat} (a : UInt8) (h : DkAt code pc [16, a]) : decode code pc = .ok (.bipush (Reader.signed 8 a.toNat), 2) := dk_of ((dk_bind (dk_u1 (h 0 _ rfl))).trans ((dk_bind (dk_map (dk_u1 (h 1 _ rfl)))).trans rfl))
theorem dk_17 {code : ByteArray} {pc : Nat} (a b : UInt8) (h : DkAt code pc [17, a, b]) : decode code pc = .ok (.sipush (Reader.signed 16 (a.toNat * 256 + b.toNat)), 3) := dk_of ((dk_bind (dk_u1 (h 0 _ rfl))).trans ((dk_bind (dk_map (dk_u2 (h 1 _ rfl) (h 2 _ rfl)))).trans rfl))
theorem dk_18 {code : ByteArray} {pc : Nat} (a : UInt8) (h : DkAt code pc [18, a]) : decode code pc = .ok (.ldc a.toNat, 2) := dk_of ((dk_bind (dk_u1 (h 0 _ rfl))).trans ((dk_bind (dk_u1 (h 1 _ rfl))).trans rfl))
theorem dk_19 {code : ByteArray} {pc : Nat} (a b : UInt8) (h : DkAt code pc [19, a, b]) : decode code pc = .ok (.ldc_w (a.toNat * 256 + b.toNat), 3) := dk_of ((dk_bind (dk_u1 (h 0 _ rfl))).trans ((dk_bind (dk_u2 (h 1 _ rfl) (h 2 _ rfl))).trans rfl))
theorem dk_20 {code : ByteArray} {pc : Nat} (a b : UInt8) (h : DkAt code pc [20, a, b]) : decode code pc = .ok (.ldc2_w (a.toNat * 256 + b.toNat), 3) := dk_of ((dk_bind (dk_u1 (h 0 _ rfl))).trans ((dk_bind (dk_u2 (h 1 _ rfl) (h 2 _ rfl))).trans rfl))
theorem dk_21 {code : ByteArray} {pc : Nat} (a : UInt8) (h : DkAt code pc [21, a]) : decode code pc = .ok (.iload a.toNat, 2) := dk_of ((dk_bind (dk_u1 (h 0 _ rfl))).trans ((dk_bind (dk_u1 (h 1 _ rfl))).trans rfl))
theorem dk_22 {code : ByteArray} {pc : Nat} (a : UInt8) (h : DkAt code pc [22, a]) : decode code pc = .ok (.lload a.toNat, 2) := dk_of ((dk_bind (dk_u1 (h 0 _ rfl))).trans ((dk_bind (dk_u1 (h 1 _ rfl))).trans rfl))
theorem dk_23 {code : ByteArray} {pc : Nat} (a : UInt8) (h : DkAt code pc [23, a]) : decode code pc = .ok (.fload a.toNat, 2) := dk_of ((dk_bind (dk_u1 (h 0 _ rfl))).trans ((dk_bind (dk_u1 (h 1 _ rfl))).trans rfl))
theorem dk_24 {code : ByteArray} {pc : Nat} (a : UInt8) (h : DkAt code pc [24, a]) : decode code pc = .ok (.dload a.toNat, 2) := dk_of ((dk_bind (dk_u1 (h 0 _ rfl))).trans ((dk_bind (dk_u1 (h 1 _ rfl))).trans rfl))
theorem dk_25 {code : ByteArray} {pc : Nat} (a : UInt8) (h : DkAt code pc [25, a]) : decode code pc = .ok (.aload a.toNat, 2) := dk_of ((dk_bind (dk_u1 (h 0 _ rfl))).trans ((dk_bind (dk_u1 (h 1 _ rfl))).trans rfl))
theorem dk_26 {code : ByteArray} {pc : Nat} (h : DkAt code pc [26]) : decode code pc = .ok (.iload_n 0, 1) := dk_of ((dk_bind (dk_u1 (h 0 _ rfl))).trans rfl)
theorem dk_27 {code : ByteArray} {pc : Nat} (h : DkAt code pc [27]) : decode code pc = .ok (.iload_n 1, 1) := dk_of ((dk_bind (dk_u1 (h 0 _ rfl))).trans rfl)
theorem dk_28 {code : ByteArray} {pc : Nat} (h : DkAt code pc [28]) : decode code pc = .ok (.iload_n 2, 1) := dk_of ((dk_bind (dk_u1 (h 0 _ rfl))).trans rfl)
theorem dk_29 {code : ByteArray} {pc : Nat} (h : DkAt code pc [29]) : decode code pc = .ok (.iload_n 3, 1) := dk_of ((dk_bind (dk_u1 (h 0 _ rfl))).trans rfl)
theorem dk_30 {code : ByteArray} {pc : Nat} (h : DkAt code pc [30]) : decode code pc = .ok (.lload_n 0, 1) := dk_of ((dk_bind (dk_u1 (h 0 _ rfl))).trans rfl)
theorem dk_31 {code : ByteArray} {pc : Nat} (h : DkAt code pc [31]) : decode code pc = .ok (.lload_n 1, 1) := dk_of ((dk_bind (dk_u1 (h 0 _ rfl))).trans rfl)
theorem dk_32 {code : ByteArray} {pc : Nat} (h : DkAt code pc [32]) : decode code pc = .ok (.lload_n 2, 1) := dk_of ((dk_bind (dk_u1 (h 0 _ rfl))).trans rfl)
theorem dk_42 {code : ByteArray} {pc : Nat} (h : DkAt code pc [42]) : decode code pc = .ok (.aload_n 0, 1) := dk_of ((dk_bind (dk_u1 (h 0 _ rfl))).trans rfl)
theorem dk_43 {code : ByteArray} {pc : Nat} (h : DkAt code pc [43]) : decode code pc = .ok (.aload_n 1, 1) := dk_of ((dk_bind (dk_u1 (h 0 _ rfl))).trans rfl)
theorem dk_44 {code : ByteArray} {pc : Nat} (h : DkAt code pc [44]) : decode code pc = .ok (.aload_n 2, 1) := dk_of ((dk_bind (dk_u1 (h 0 _ rfl))).trans rfl)
theorem dk_45 {code : ByteArray} {pc : Nat} (h : DkAt code pc [45]) : decode code pc = .ok (.aload_n 3, 1) := dk_of ((dk_bind (dk_u1 (h 0 _ rfl))).trans rfl)
theorem dk_46 {code : ByteArray} {pc : Nat} (h : DkAt code pc [46]) : decode code pc = .ok (.iaload, 1) := dk_of ((dk_bind (dk_u1 (h 0 _ rfl))).trans rfl)
theorem dk_47 {code : ByteArray} {pc : Nat} (h : DkAt code pc [47]) : decode code pc = .ok (.laload, 1) := dk_of ((dk_bind (dk_u1 (h 0 _ rfl))).trans rfl)
theorem dk_49 {code : ByteArray} {pc : Nat} (h : DkAt code pc [49]) : decode code pc = .ok (.daload, 1) := dk_of ((dk_bind (dk_u1 (h 0 _ rfl))).trans rfl)
theorem dk_50 {code : ByteArray} {pc : Nat} (h : DkAt code pc [50]) : decode code pc = .ok (.aaload, 1) := dk_of ((dk_bind (dk_u1 (h 0 _ rfl))).trans rfl)
theorem dk_51 {code : ByteArray} {pc : Nat} (h : DkAt code pc [51]) : decode code pc = .ok (.baload, 1) := dk_of ((dk_bind (dk_u1 (h 0 _ rfl))).trans rfl)
theorem dk_52 {code : ByteArray} {pc : Nat} (h : DkAt code pc [52]) : decode code pc = .ok (.caload, 1) := dk_of ((dk_bind (dk_u1 (h 0 _ rfl))).trans rfl)
theorem dk_53 {code : ByteArray} {pc : Nat} (h : DkAt code pc [53]) : decode code pc = .ok (.saload, 1) := dk_of ((dk_bind (dk_u1 (h 0 _ rfl))).trans rfl)
theorem dk_54 {code : ByteArray} {pc : Nat} (a : UInt8) (h : DkAt code pc [54, a]) : decode code pc = .ok (.istore a.toNat, 2) := dk_of ((dk_bind (dk_u1 (h 0 _ rfl))).trans ((dk_bind (dk_u1 (h 1 _ rfl))).trans rfl))
theorem dk_55 {code : ByteArray} {pc : Nat} (a : UInt8) (h : DkAt code pc [55, a]) : decode code pc = .ok (.lstore a.toNat, 2) := dk_of ((dk_bind (dk_u1 (h 0 _ rfl))).trans ((dk_bind (dk_u1 (h 1 _ rfl))).trans rfl))
theorem dk_56 {code : ByteArray} {pc : Nat} (a : UInt8) (h : DkAt code pc [56, a]) : decode code pc = .ok (.fstore a.toNat, 2) := dk_of ((dk_bind (dk_u1 (h 0 _ rfl))).trans ((dk_bind (dk_u1 (h 1 _ rfl))).trans rfl))
theorem dk_57 {code : ByteArray} {pc : Nat} (a : UInt8) (h : DkAt code pc [57, a]) : decode code pc = .ok (.dstore a.toNat, 2) := dk_of ((dk_bind (dk_u1 (h 0 _ rfl))).trans ((dk_bind (dk_u1 (h 1 _ rfl))).trans rfl))
theorem dk_58 {code : ByteArray} {pc : Nat} (a : UInt8) (h : DkAt code pc [58, a]) : decode code pc = .ok (.astore a.toNat, 2) := dk_of ((dk_bind (dk_u1 (h 0 _ rfl))).trans ((dk_bind (dk_u1 (h 1 _ rfl))).trans rfl))
theorem dk_59 {code : ByteArray} {pc : Nat} (h : DkAt code pc [59]) : decode code pc = .ok (.istore_n 0, 1) := dk_of ((dk_bind (dk_u1 (h 0 _ rfl))).trans rfl)
theorem dk_60 {code : ByteArray} {pc : Nat} (h : DkAt code pc [60]) : decode code pc = .ok (.istore_n 1, 1) := dk_of ((dk_bind (dk_u1 (h 0 _ rfl))).trans rfl)
theorem dk_61 {code : ByteArray} {pc : Nat} (h : DkAt code pc [61]) : decode code pc = .ok (.istore_n 2, 1) := dk_of ((dk_bind (dk_u1 (h 0 _ rfl))).trans rfl)
theorem dk_62 {code : ByteArray} {pc : Nat} (h : DkAt code pc [62]) : decode code pc = .ok (.istore_n 3, 1) := dk_of ((dk_bind (dk_u1 (h 0 _ rfl))).trans rfl)
theorem dk_75 {code : ByteArray} {pc : Nat} (h : DkAt code pc [75]) : decode code pc = .ok (.astore_n 0, 1) := dk_of ((dk_bind (dk_u1 (h 0 _ rfl))).trans rfl)
theorem dk_76 {code : ByteArray} {pc : Nat} (h : DkAt code pc [76]) : decode code pc = .ok (.astore_n 1, 1) := dk_of ((dk_bind (dk_u1 (h 0 _ rfl))).trans rfl)
theorem dk_77 {code : ByteArray} {pc : Nat} (h : DkAt code pc [77]) : decode code pc = .ok (.astore_n 2, 1) := dk_of ((dk_bind (dk_u1 (h 0 _ rfl))).trans rfl)
theorem dk_78 {code : ByteArray} {pc : Nat} (h : DkAt code pc [78]) : decode code pc = .ok (.astore_n 3, 1) := dk_of ((dk_bind (dk_u1 (h 0 _ rfl))).trans rfl)
theorem dk_79 {code : ByteArray} {pc : Nat} (h : DkAt code pc [79]) : decode code pc = .ok (.iastore, 1) := dk_of ((dk_bind (dk_u1 (h 0 _ rfl))).trans rfl)
theorem dk_80 {code : ByteArray} {pc : Nat} (h : DkAt code pc [80]) : decode code pc = .ok (.lastore, 1) := dk_of ((dk_bind (dk_u1 (h 0 _ rfl))).trans rfl)
theorem dk_82 {code : ByteArray} {pc : Nat} (h : DkAt code pc [82]) : decode code pc = .ok (.dastore, 1) := dk_of ((dk_bind (dk_u1 (h 0 _ rfl))).trans rfl)
theorem dk_83 {code : ByteArray} {pc : Nat} (h : DkAt code pc [83]) : decode code pc = .ok (.aastore, 1) := dk_of ((dk_bind (dk_u1 (h 0 _ rfl))).trans rfl)
theorem dk_84 {code : ByteArray} {pc : Nat} (h : DkAt code pc [84]) : decode code pc = .ok (.bastore, 1) := dk_of ((dk_bind (dk_u1 (h 0 _ rfl))).trans rfl)
theorem dk_85 {code : ByteArray} {pc : Nat} (h : DkAt code pc [85]) : decode code pc = .ok (.castore, 1) := dk_of ((dk_bind (dk_u1 (h 0 _ rfl))).trans rfl)
theorem dk_87 {code : ByteArray} {pc : Nat} (h : DkAt code pc [87]) : decode code pc = .ok (.pop, 1) := dk_of ((dk_bind (dk_u1 (h 0 _ rfl))).trans rfl)
theorem dk_89 {code : ByteArray} {pc : Nat} (h : DkAt code pc [89]) : decode code pc = .ok (.dup, 1) := dk_of ((dk_bind (dk_u1 (h 0 _ rfl))).trans rfl)
theorem dk_90 {code : ByteArray} {pc : Nat} (h : DkAt code pc [90]) : decode code pc = .ok (.dup_x1, 1) := dk_of ((dk_bind (dk_u1 (h 0 _ rfl))).trans rfl)
theorem dk_91 {code : ByteArray} {pc : Nat} (h : DkAt code pc [91]) : decode code pc = .ok (.dup_x2, 1) := dk_of ((dk_bind (dk_u1 (h 0 _ rfl))).trans rfl)
theorem dk_92 {code : ByteArray} {pc : Nat} (h : DkAt code pc [92]) : decode code pc = .ok (.dup2, 1) := dk_of ((dk_bind (dk_u1 (h 0 _ rfl))).trans rfl)
theorem dk_96 {code : ByteArray} {pc : Nat} (h : DkAt code pc [96]) : decode code pc = .ok (.iadd, 1) := dk_of ((dk_bind (dk_u1 (h 0 _ rfl))).trans rfl)
theorem dk_97 {code : ByteArray} {pc : Nat} (h : DkAt code pc [97]) : decode code pc = .ok (.ladd, 1) := dk_of ((dk_bind (dk_u1 (h 0 _ rfl))).trans rfl)
theorem dk_100 {code : ByteArray} {pc : Nat} (h : DkAt code pc [100]) : decode code pc = .ok (.isub, 1) := dk_of ((dk_bind (dk_u1 (h 0 _ rfl))).trans rfl)
theorem dk_104 {code : ByteArray} {pc : Nat} (h : DkAt code pc [104]) : decode code pc = .ok (.imul, 1) := dk_of ((dk_bind (dk_u1 (h 0 _ rfl))).trans rfl)
theorem dk_108 {code : ByteArray} {pc : Nat} (h : DkAt code pc [108]) : decode code pc = .ok (.idiv, 1) := dk_of ((dk_bind (dk_u1 (h 0 _ rfl))).trans rfl)
theorem dk_110 {code : ByteArray} {pc : Nat} (h : DkAt code pc [110]) : decode code pc = .ok (.fdiv, 1) := dk_of ((dk_bind (dk_u1 (h 0 _ rfl))).trans rfl)
theorem dk_111 {code : ByteArray} {pc : Nat} (h : DkAt code pc [111]) : decode code pc = .ok (.ddiv, 1) := dk_of ((dk_bind (dk_u1 (h 0 _ rfl))).trans rfl)
theorem dk_112 {code : ByteArray} {pc : Nat} (h : DkAt code pc [112]) : decode code pc = .ok (.irem, 1) := dk_of ((dk_bind (dk_u1 (h 0 _ rfl))).trans rfl)
theorem dk_116 {code : ByteArray} {pc : Nat} (h : DkAt code pc [116]) : decode code pc = .ok (.ineg, 1) := dk_of ((dk_bind (dk_u1 (h 0 _ rfl))).trans rfl)
theorem dk_120 {code : ByteArray} {pc : Nat} (h : DkAt code pc [120]) : decode code pc = .ok (.ishl, 1) := dk_of ((dk_bind (dk_u1 (h 0 _ rfl))).trans rfl)
theorem dk_121 {code : ByteArray} {pc : Nat} (h : DkAt code pc [121]) : decode code pc = .ok (.lshl, 1) := dk_of ((dk_bind (dk_u1 (h 0 _ rfl))).trans rfl)
theorem dk_122 {code : ByteArray} {pc : Nat} (h : DkAt code pc [122]) : decode code pc = .ok (.ishr, 1) := dk_of ((dk_bind (dk_u1 (h 0 _ rfl))).trans rfl)
theorem dk_124 {code : ByteArray} {pc : Nat} (h : DkAt code pc [124]) : decode code pc = .ok (.iushr, 1) := dk_of ((dk_bind (dk_u1 (h 0 _ rfl))).trans rfl)
theorem dk_125 {code : ByteArray} {pc : Nat} (h : DkAt code pc [125]) : decode code pc = .ok (.lushr, 1) := dk_of ((dk_bind (dk_u1 (h 0 _ rfl))).trans rfl)
theorem dk_126 {code : ByteArray} {pc : Nat} (h : DkAt code pc [126]) : decode code pc = .ok (.iand, 1) := dk_of ((dk_bind (dk_u1 (h 0 _ rfl))).trans rfl)
theorem dk_127 {code : ByteArray} {pc : Nat} (h : DkAt code pc [127]) : decode code pc = .ok (.land, 1) := dk_of ((dk_bind (dk_u1 (h 0 _ rfl))).trans rfl)
theorem dk_128 {code : ByteArray} {pc : Nat} (h : DkAt code pc [128]) : decode code pc = .ok (.ior, 1) := dk_of ((dk_bind (dk_u1 (h 0 _ rfl))).trans rfl)
theorem dk_129 {code : ByteArray} {pc : Nat} (h : DkAt code pc [129]) : decode code pc = .ok (.lor, 1) := dk_of ((dk_bind (dk_u1 (h 0 _ rfl))).trans rfl)
theorem dk_130 {code : ByteArray} {pc : Nat} (h : DkAt code pc [130]) : decode code pc = .ok (.ixor, 1) := dk_of ((dk_bind (dk_u1 (h 0 _ rfl))).trans rfl)
theorem dk_131 {code : ByteArray} {pc : Nat} (h : DkAt code pc [131]) : decode code pc = .ok (.lxor, 1) := dk_of ((dk_bind (dk_u1 (h 0 _ rfl))).trans rfl)
theorem dk_132 {code : ByteArray} {pc : Nat} (a b : UInt8) (h : DkAt code pc [132, a, b]) : decode code pc = .ok (.iinc a.toNat (Reader.signed 8 b.toNat), 3) := dk_of ((dk_bind (dk_u1 (h 0 _ rfl))).trans ((dk_bind (dk_u1 (h 1 _ rfl))).trans ((dk_bind (dk_map (dk_u1 (h 2 _ rfl)))).trans rfl)))
theorem dk_133 {code : ByteArray} {pc : Nat} (h : DkAt code pc [133]) : decode code pc = .ok (.i2l, 1) := dk_of ((dk_bind (dk_u1 (h 0 _ rfl))).trans rfl)
theorem dk_134 {code : ByteArray} {pc : Nat} (h : DkAt code pc [134]) : decode code pc = .ok (.i2f, 1) := dk_of ((dk_bind (dk_u1 (h 0 _ rfl))).trans rfl)
theorem dk_135 {code : ByteArray} {pc : Nat} (h : DkAt code pc [135]) : decode code pc = .ok (.i2d, 1) := dk_of ((dk_bind (dk_u1 (h 0 _ rfl))).trans rfl)
theorem dk_136 {code : ByteArray} {pc : Nat} (h : DkAt code pc [136]) : decode code pc = .ok (.l2i, 1) := dk_of ((dk_bind (dk_u1 (h 0 _ rfl))).trans rfl)
theorem dk_141 {code : ByteArray} {pc : Nat} (h : DkAt code pc [141]) : decode code pc = .ok (.f2d, 1) := dk_of ((dk_bind (dk_u1 (h 0 _ rfl))).trans rfl)
theorem dk_145 {code : ByteArray} {pc : Nat} (h : DkAt code pc [145]) : decode code pc = .ok (.i2b, 1) := dk_of ((dk_bind (dk_u1 (h 0 _ rfl))).trans rfl)
theorem dk_146 {code : ByteArray} {pc : Nat} (h : DkAt code pc [146]) : decode code pc = .ok (.i2c, 1) := dk_of ((dk_bind (dk_u1 (h 0 _ rfl))).trans rfl)
theorem dk_148 {code : ByteArray} {pc : Nat} (h : DkAt code pc [148]) : decode code pc = .ok (.lcmp, 1) := dk_of ((dk_bind (dk_u1 (h 0 _ rfl))).trans rfl)
theorem dk_149 {code : ByteArray} {pc : Nat} (h : DkAt code pc [149]) : decode code pc = .ok (.fcmp .l, 1) := dk_of ((dk_bind (dk_u1 (h 0 _ rfl))).trans rfl)
theorem dk_151 {code : ByteArray} {pc : Nat} (h : DkAt code pc [151]) : decode code pc = .ok (.dcmp .l, 1) := dk_of ((dk_bind (dk_u1 (h 0 _ rfl))).trans rfl)
theorem dk_153 {code : ByteArray} {pc : Nat} (a b : UInt8) (h : DkAt code pc [153, a, b]) : decode code pc = .ok (.ifCond .eq (Reader.signed 16 (a.toNat * 256 + b.toNat)), 3) := dk_of ((dk_bind (dk_u1 (h 0 _ rfl))).trans ((dk_bind (dk_map (dk_u2 (h 1 _ rfl) (h 2 _ rfl)))).trans rfl))
theorem dk_154 {code : ByteArray} {pc : Nat} (a b : UInt8) (h : DkAt code pc [154, a, b]) : decode code pc = .ok (.ifCond .ne (Reader.signed 16 (a.toNat * 256 + b.toNat)), 3) := dk_of ((dk_bind (dk_u1 (h 0 _ rfl))).trans ((dk_bind (dk_map (dk_u2 (h 1 _ rfl) (h 2 _ rfl)))).trans rfl))
theorem dk_155 {code : ByteArray} {pc : Nat} (a b : UInt8) (h : DkAt code pc [155, a, b]) : decode code pc = .ok (.ifCond .lt (Reader.signed 16 (a.toNat * 256 + b.toNat)), 3) := dk_of ((dk_bind (dk_u1 (h 0 _ rfl))).trans ((dk_bind (dk_map (dk_u2 (h 1 _ rfl) (h 2 _ rfl)))).trans rfl))
theorem dk_156 {code : ByteArray} {pc : Nat} (a b : UInt8) (h : DkAt code pc [156, a, b]) : decode code pc = .ok (.ifCond .ge (Reader.signed 16 (a.toNat * 256 + b.toNat)), 3) := dk_of ((dk_bind (dk_u1 (h 0 _ rfl))).trans ((dk_bind (dk_map (dk_u2 (h 1 _ rfl) (h 2 _ rfl)))).trans rfl))
theorem dk_157 {code : ByteArray} {pc : Nat} (a b : UInt8) (h : DkAt code pc [157, a, b]) : decode code pc = .ok (.ifCond .gt (Reader.signed 16 (a.toNat * 256 + b.toNat)), 3) := dk_of ((dk_bind (dk_u1 (h 0 _ rfl))).trans ((dk_bind (dk_map (dk_u2 (h 1 _ rfl) (h 2 _ rfl)))).trans rfl))
theorem dk_158 {code : ByteArray} {pc : Nat} (a b : UInt8) (h : DkAt code pc [158, a, b]) : decode code pc = .ok (.ifCond .le (Reader.signed 16 (a.toNat * 256 + b.toNat)), 3) := dk_of ((dk_bind (dk_u1 (h 0 _ rfl))).trans ((dk_bind (dk_map (dk_u2 (h 1 _ rfl) (h 2 _ rfl)))).trans rfl))
theorem dk_159 {code : ByteArray} {pc : Nat} (a b : UInt8) (h : DkAt code pc [159, a, b]) : decode code pc = .ok (.if_icmp .eq (Reader.signed 16 (a.toNat * 256 + b.toNat)), 3) := dk_of ((dk_bind (dk_u1 (h 0 _ rfl))).trans ((dk_bind (dk_map (dk_u2 (h 1 _ rfl) (h 2 _ rfl)))).trans rfl))
theorem dk_160 {code : ByteArray} {pc : Nat} (a b : UInt8) (h : DkAt code pc [160, a, b]) : decode code pc = .ok (.if_icmp .ne (Reader.signed 16 (a.toNat * 256 + b.toNat)), 3) := dk_of ((dk_bind (dk_u1 (h 0 _ rfl))).trans ((dk_bind (dk_map (dk_u2 (h 1 _ rfl) (h 2 _ rfl)))).trans rfl))
theorem dk_161 {code : ByteArray} {pc : Nat} (a b : UInt8) (h : DkAt code pc [161, a, b]) : decode code pc = .ok (.if_icmp .lt (Reader.signed 16 (a.toNat * 256 + b.toNat)), 3) := dk_of ((dk_bind (dk_u1 (h 0 _ rfl))).trans ((dk_bind (dk_map (dk_u2 (h 1 _ rfl) (h 2 _ rfl)))).trans rfl))
theorem dk_162 {code : ByteArray} {pc : Nat} (a b : UInt8) (h : DkAt code pc [162, a, b]) : decode code pc = .ok (.if_icmp .ge (Reader.signed 16 (a.toNat * 256 + b.toNat)), 3) := dk_of ((dk_bind (dk_u1 (h 0 _ rfl))).trans ((dk_bind (dk_map (dk_u2 (h 1 _ rfl) (h 2 _ rfl)))).trans rfl))
theorem dk_163 {code : ByteArray} {pc : Nat} (a b : UInt8) (h : DkAt code pc [163, a, b]) : decode code pc = .ok (.if_icmp .gt (Reader.signed 16 (a.toNat * 256 + b.toNat)), 3) := dk_of ((dk_bind (dk_u1 (h 0 _ rfl))).trans ((dk_bind (dk_map (dk_u2 (h 1 _ rfl) (h 2 _ rfl)))).trans rfl))
theorem dk_164 {code : ByteArray} {pc : Nat} (a b : UInt8) (h : DkAt code pc [164, a, b]) : decode code pc = .ok (.if_icmp .le (Reader.signed 16 (a.toNat * 256 + b.toNat)), 3) := dk_of ((dk_bind (dk_u1 (h 0 _ rfl))).trans ((dk_bind (dk_map (dk_u2 (h 1 _ rfl) (h 2 _ rfl)))).trans rfl))
theorem dk_165 {code : ByteArray} {pc : Nat} (a b : UInt8) (h : DkAt code pc [165, a, b]) : decode code pc = .ok (.if_acmp .eq (Reader.signed 16 (a.toNat * 256 + b.toNat)), 3) := dk_of ((dk_bind (dk_u1 (h 0 _ rfl))).trans ((dk_bind (dk_map (dk_u2 (h 1 _ rfl) (h 2 _ rfl)))).trans rfl))
theorem dk_166 {code : ByteArray} {pc : Nat} (a b : UInt8) (h : DkAt code pc [166, a, b]) : decode code pc = .ok (.if_acmp .ne (Reader.signed 16 (a.toNat * 256 + b.toNat)), 3) := dk_of ((dk_bind (dk_u1 (h 0 _ rfl))).trans ((dk_bind (dk_map (dk_u2 (h 1 _ rfl) (h 2 _ rfl)))).trans rfl))
theorem dk_167 {code : ByteArray} {pc : Nat} (a b : UInt8) (h : DkAt code pc [167, a, b]) : decode code pc = .ok (.goto (Reader.signed 16 (a.toNat * 256 + b.toNat)), 3) := dk_of ((dk_bind (dk_u1 (h 0 _ rfl))).trans ((dk_bind (dk_map (dk_u2 (h 1 _ rfl) (h 2 _ rfl)))).trans rfl))
theorem dk_172 {code : ByteArray} {pc : Nat} (h : DkAt code pc [172]) : decode code pc = .ok (.ireturn, 1) := dk_of ((dk_bind (dk_u1 (h 0 _ rfl))).trans rfl)
theorem dk_173 {code : ByteArray} {pc : Nat} (h : DkAt code pc [173]) : decode code pc = .ok (.lreturn, 1) := dk_of ((dk_bind (dk_u1 (h 0 _ rfl))).trans rfl)
theorem dk_174 {code : ByteArray} {pc : Nat} (h : DkAt code pc [174]) : decode code pc = .ok (.freturn, 1) := dk_of ((dk_bind (dk_u1 (h 0 _ rfl))).trans rfl)
theorem dk_175 {code : ByteArray} {pc : Nat} (h : DkAt code pc [175]) : decode code pc = .ok (.dreturn, 1) := dk_of ((dk_bind (dk_u1 (h 0 _ rfl))).trans rfl)
theorem dk_176 {code : ByteArray} {pc : Nat} (h : DkAt code pc [176]) : decode code pc = .ok (.areturn, 1) := dk_of ((dk_bind (dk_u1 (h 0 _ rfl))).trans rfl)
theorem dk_177 {code : ByteArray} {pc : Nat} (h : DkAt code pc [177]) : decode code pc = .ok (.return_, 1) := dk_of ((dk_bind (dk_u1 (h 0 _ rfl))).trans rfl)
theorem dk_178 {code : ByteArray} {pc : Nat} (a b : UInt8) (h : DkAt code pc [178, a, b]) : decode code pc = .ok (.getstatic (a.toNat * 256 + b.toNat), 3) := dk_of ((dk_bind (dk_u1 (h 0 _ rfl))).trans ((dk_bind (dk_u2 (h 1 _ rfl) (h 2 _ rfl))).trans rfl))
theorem dk_180 {code : ByteArray} {pc : Nat} (a b : UInt8) (h : DkAt code pc [180, a, b]) : decode code pc = .ok (.getfield (a.toNat * 256 + b.toNat), 3) := dk_of ((dk_bind (dk_u1 (h 0 _ rfl))).trans ((dk_bind (dk_u2 (h 1 _ rfl) (h 2 _ rfl))).trans rfl))
theorem dk_181 {code : ByteArray} {pc : Nat} (a b : UInt8) (h : DkAt code pc [181, a, b]) : decode code pc = .ok (.putfield (a.toNat * 256 + b.toNat), 3) := dk_of ((dk_bind (dk_u1 (h 0 _ rfl))).trans ((dk_bind (dk_u2 (h 1 _ rfl) (h 2 _ rfl))).trans rfl))
theorem dk_182 {code : ByteArray} {pc : Nat} (a b : UInt8) (h : DkAt code pc [182, a, b]) : decode code pc = .ok (.invokevirtual (a.toNat * 256 + b.toNat), 3) := dk_of ((dk_bind (dk_u1 (h 0 _ rfl))).trans ((dk_bind (dk_u2 (h 1 _ rfl) (h 2 _ rfl))).trans rfl))
theorem dk_183 {code : ByteArray} {pc : Nat} (a b : UInt8) (h : DkAt code pc [183, a, b]) : decode code pc = .ok (.invokespecial (a.toNat * 256 + b.toNat), 3) := dk_of ((dk_bind (dk_u1 (h 0 _ rfl))).trans ((dk_bind (dk_u2 (h 1 _ rfl) (h 2 _ rfl))).trans rfl))
theorem dk_184 {code : ByteArray} {pc : Nat} (a b : UInt8) (h : DkAt code pc [184, a, b]) : decode code pc = .ok (.invokestatic (a.toNat * 256 + b.toNat), 3) := dk_of ((dk_bind (dk_u1 (h 0 _ rfl))).trans ((dk_bind (dk_u2 (h 1 _ rfl) (h 2 _ rfl))).trans rfl))
theorem dk_187 {code : ByteArray} {pc : Nat} (a b : UInt8) (h : DkAt code pc [187, a, b]) : decode code pc = .ok (.new (a.toNat * 256 + b.toNat), 3) := dk_of ((dk_bind (dk_u1 (h 0 _ rfl))).trans ((dk_bind (dk_u2 (h 1 _ rfl) (h 2 _ rfl))).trans rfl))
theorem dk_188_5 {code : ByteArray} {pc : Nat} (h : DkAt code pc [188, 5]) : decode code pc = .ok (.newarray .char, 2) := dk_of ((dk_bind (dk_u1 (h 0 _ rfl))).trans ((dk_bind (dk_u1 (h 1 _ rfl))).trans rfl))
theorem dk_188_7 {code : ByteArray} {pc : Nat} (h : DkAt code pc [188, 7]) : decode code pc = .ok (.newarray .double, 2) := dk_of ((dk_bind (dk_u1 (h 0 _ rfl))).trans ((dk_bind (dk_u1 (h 1 _ rfl))).trans rfl))
theorem dk_188_8 {code : ByteArray} {pc : Nat} (h : DkAt code pc [188, 8]) : decode code pc = .ok (.newarray .byte, 2) := dk_of ((dk_bind (dk_u1 (h 0 _ rfl))).trans ((dk_bind (dk_u1 (h 1 _ rfl))).trans rfl))
theorem dk_188_10 {code : ByteArray} {pc : Nat} (h : DkAt code pc [188, 10]) : decode code pc = .ok (.newarray .int, 2) := dk_of ((dk_bind (dk_u1 (h 0 _ rfl))).trans ((dk_bind (dk_u1 (h 1 _ rfl))).trans rfl))
theorem dk_188_11 {code : ByteArray} {pc : Nat} (h : DkAt code pc [188, 11]) : decode code pc = .ok (.newarray .long, 2) := dk_of ((dk_bind (dk_u1 (h 0 _ rfl))).trans ((dk_bind (dk_u1 (h 1 _ rfl))).trans rfl))
theorem dk_189 {code : ByteArray} {pc : Nat} (a b : UInt8) (h : DkAt code pc [189, a, b]) : decode code pc = .ok (.anewarray (a.toNat * 256 + b.toNat), 3) := dk_of ((dk_bind (dk_u1 (h 0 _ rfl))).trans ((dk_bind (dk_u2 (h 1 _ rfl) (h 2 _ rfl))).trans rfl))
theorem dk_190 {code : ByteArray} {pc : Nat} (h : DkAt code pc [190]) : decode code pc = .ok (.arraylength, 1) := dk_of ((dk_bind (dk_u1 (h 0 _ rfl))).trans rfl)
theorem dk_191 {code : ByteArray} {pc : Nat} (h : DkAt code pc [191]) : decode code pc = .ok (.athrow, 1) := dk_of ((dk_bind (dk_u1 (h 0 _ rfl))).trans rfl)
theorem dk_192 {code : ByteArray} {pc : Nat} (a b : UInt8) (h : DkAt code pc [192, a, b]) : decode code pc = .ok (.checkcast (a.toNat * 256 + b.toNat), 3) := dk_of ((dk_bind (dk_u1 (h 0 _ rfl))).trans ((dk_bind (dk_u2 (h 1 _ rfl) (h 2 _ rfl))).trans rfl))
theorem dk_193 {code : ByteArray} {pc : Nat} (a b : UInt8) (h : DkAt code pc [193, a, b]) : decode code pc = .ok (.instanceof (a.toNat * 256 + b.toNat), 3) := dk_of ((dk_bind (dk_u1 (h 0 _ rfl))).trans ((dk_bind (dk_u2 (h 1 _ rfl) (h 2 _ rfl))).trans rfl))
theorem dk_198 {code : ByteArray} {pc : Nat} (a b : UInt8) (h : DkAt code pc [198, a, b]) : decode code pc = .ok (.ifnull (Reader.signed 16 (a.toNat * 256 + b.toNat)), 3) := dk_of ((dk_bind (dk_u1 (h 0 _ rfl))).trans ((dk_bind (dk_map (dk_u2 (h 1 _ rfl) (h 2 _ rfl)))).trans rfl))
theorem dk_199 {code : ByteArray} {pc : Nat} (a b : UInt8) (h : DkAt code pc [199, a, b]) : decode code pc = .ok (.ifnonnull (Reader.signed 16 (a.toNat * 256 + b.toNat)), 3) := dk_of ((dk_bind (dk_u1 (h 0 _ rfl))).trans ((dk_bind (dk_map (dk_u2 (h 1 _ rfl) (h 2 _ rfl)))).trans rfl))
abbrev cJ9_init : ByteArray := prog_55_method_1_code
def dkwJ9_init_1 : List UInt8 := [182, 0, 27, 87, 177]
abbrev dktJ9_init_1 : List UInt8 := dkwJ9_init_1 ++ []
def dkwJ9_init_0 : List UInt8 := [42, 183, 0, 1, 42, 42, 181, 0, 7, 42, 178, 0, 13, 181, 0, 17, 42, 178, 0, 20, 181, 0, 24, 42]
abbrev dktJ9_init_0 : List UInt8 := dkwJ9_init_0 ++ dktJ9_init_1
theorem dksJ9_init_0 : cJ9_init.data.toList.drop 0 = dktJ9_init_0 := by decide +kernel
theorem dksJ9_init_1 : cJ9_init.data.toList.drop 24 = dktJ9_init_1 := dk_seg dksJ9_init_0 24 rfl rfl
theorem dJ9_init_0 : decode cJ9_init 0 = .ok (.aload_n 0, 1) := dk_42 (dk_at dksJ9_init_0 0 rfl rfl)
theorem dJ9_init_1 : decode cJ9_init 1 = .ok (.invokespecial 1, 3) := dk_183 0 1 (dk_at dksJ9_init_0 1 rfl rfl)
theorem dJ9_init_4 : decode cJ9_init 4 = .ok (.aload_n 0, 1) := dk_42 (dk_at dksJ9_init_0 4 rfl rfl)
theorem dJ9_init_5 : decode cJ9_init 5 = .ok (.aload_n 0, 1) := dk_42 (dk_at dksJ9_init_0 5 rfl rfl)
theorem dJ9_init_6 : decode cJ9_init 6 = .ok (.putfield 7, 3) := dk_181 0 7 (dk_at dksJ9_init_0 6 rfl rfl)
theorem dJ9_init_9 : decode cJ9_init 9 = .ok (.aload_n 0, 1) := dk_42 (dk_at dksJ9_init_0 9 rfl rfl)
theorem dJ9_init_10 : decode cJ9_init 10 = .ok (.getstatic 13, 3) := dk_178 0 13 (dk_at dksJ9_init_0 10 rfl rfl)
theorem dJ9_init_13 : decode cJ9_init 13 = .ok (.putfield 17, 3) := dk_181 0 17 (dk_at dksJ9_init_0 13 rfl rfl)
theorem dJ9_init_16 : decode cJ9_init 16 = .ok (.aload_n 0, 1) := dk_42 (dk_at dksJ9_init_0 16 rfl rfl)
theorem dJ9_init_17 : decode cJ9_init 17 = .ok (.getstatic 20, 3) := dk_178 0 20 (dk_at dksJ9_init_0 17 rfl rfl)
theorem dJ9_init_20 : decode cJ9_init 20 = .ok (.putfield 24, 3) := dk_181 0 24 (dk_at dksJ9_init_0 20 rfl rfl)
theorem dJ9_init_23 : decode cJ9_init 23 = .ok (.aload_n 0, 1) := dk_42 (dk_at dksJ9_init_0 23 rfl rfl)
theorem dJ9_init_24 : decode cJ9_init 24 = .ok (.invokevirtual 27, 3) := dk_182 0 27 (dk_at dksJ9_init_1 0 rfl rfl)
theorem dJ9_init_27 : decode cJ9_init 27 = .ok (.pop, 1) := dk_87 (dk_at dksJ9_init_1 3 rfl rfl)
theorem dJ9_init_28 : decode cJ9_init 28 = .ok (.return_, 1) := dk_177 (dk_at dksJ9_init_1 4 rfl rfl)
abbrev cJ9_init_4 : ByteArray := prog_55_method_3_code
def dkwJ9_init_4_1 : List UInt8 := [182, 0, 27, 87, 42, 43, 181, 0, 31, 42, 44, 181, 0, 7, 177]
abbrev dktJ9_init_4_1 : List UInt8 := dkwJ9_init_4_1 ++ []
def dkwJ9_init_4_0 : List UInt8 := [42, 183, 0, 1, 42, 42, 181, 0, 7, 42, 178, 0, 13, 181, 0, 17, 42, 178, 0, 20, 181, 0, 24, 42]
abbrev dktJ9_init_4_0 : List UInt8 := dkwJ9_init_4_0 ++ dktJ9_init_4_1
theorem dksJ9_init_4_0 : cJ9_init_4.data.toList.drop 0 = dktJ9_init_4_0 := by decide +kernel
theorem dksJ9_init_4_1 : cJ9_init_4.data.toList.drop 24 = dktJ9_init_4_1 := dk_seg dksJ9_init_4_0 24 rfl rfl
theorem dJ9_init_4_0 : decode cJ9_init_4 0 = .ok (.aload_n 0, 1) := dk_42 (dk_at dksJ9_init_4_0 0 rfl rfl)
theorem dJ9_init_4_1 : decode cJ9_init_4 1 = .ok (.invokespecial 1, 3) := dk_183 0 1 (dk_at dksJ9_init_4_0 1 rfl rfl)
theorem dJ9_init_4_4 : decode cJ9_init_4 4 = .ok (.aload_n 0, 1) := dk_42 (dk_at dksJ9_init_4_0 4 rfl rfl)
theorem dJ9_init_4_5 : decode cJ9_init_4 5 = .ok (.aload_n 0, 1) := dk_42 (dk_at dksJ9_init_4_0 5 rfl rfl)
theorem dJ9_init_4_6 : decode cJ9_init_4 6 = .ok (.putfield 7, 3) := dk_181 0 7 (dk_at dksJ9_init_4_0 6 rfl rfl)
theorem dJ9_init_4_9 : decode cJ9_init_4 9 = .ok (.aload_n 0, 1) := dk_42 (dk_at dksJ9_init_4_0 9 rfl rfl)
theorem dJ9_init_4_10 : decode cJ9_init_4 10 = .ok (.getstatic 13, 3) := dk_178 0 13 (dk_at dksJ9_init_4_0 10 rfl rfl)
theorem dJ9_init_4_13 : decode cJ9_init_4 13 = .ok (.putfield 17, 3) := dk_181 0 17 (dk_at dksJ9_init_4_0 13 rfl rfl)
theorem dJ9_init_4_16 : decode cJ9_init_4 16 = .ok (.aload_n 0, 1) := dk_42 (dk_at dksJ9_init_4_0 16 rfl rfl)
theorem dJ9_init_4_17 : decode cJ9_init_4 17 = .ok (.getstatic 20, 3) := dk_178 0 20 (dk_at dksJ9_init_4_0 17 rfl rfl)
theorem dJ9_init_4_20 : decode cJ9_init_4 20 = .ok (.putfield 24, 3) := dk_181 0 24 (dk_at dksJ9_init_4_0 20 rfl rfl)
theorem dJ9_init_4_23 : decode cJ9_init_4 23 = .ok (.aload_n 0, 1) := dk_42 (dk_at dksJ9_init_4_0 23 rfl rfl)
theorem dJ9_init_4_24 : decode cJ9_init_4 24 = .ok (.invokevirtual 27, 3) := dk_182 0 27 (dk_at dksJ9_init_4_1 0 rfl rfl)
theorem dJ9_init_4_27 : decode cJ9_init_4 27 = .ok (.pop, 1) := dk_87 (dk_at dksJ9_init_4_1 3 rfl rfl)
theorem dJ9_init_4_28 : decode cJ9_init_4 28 = .ok (.aload_n 0, 1) := dk_42 (dk_at dksJ9_init_4_1 4 rfl rfl)
theorem dJ9_init_4_29 : decode cJ9_init_4 29 = .ok (.aload_n 1, 1) := dk_43 (dk_at dksJ9_init_4_1 5 rfl rfl)
theorem dJ9_init_4_30 : decode cJ9_init_4 30 = .ok (.putfield 31, 3) := dk_181 0 31 (dk_at dksJ9_init_4_1 6 rfl rfl)
theorem dJ9_init_4_33 : decode cJ9_init_4 33 = .ok (.aload_n 0, 1) := dk_42 (dk_at dksJ9_init_4_1 9 rfl rfl)
theorem dJ9_init_4_34 : decode cJ9_init_4 34 = .ok (.aload_n 2, 1) := dk_44 (dk_at dksJ9_init_4_1 10 rfl rfl)
theorem dJ9_init_4_35 : decode cJ9_init_4 35 = .ok (.putfield 7, 3) := dk_181 0 7 (dk_at dksJ9_init_4_1 11 rfl rfl)
theorem dJ9_init_4_38 : decode cJ9_init_4 38 = .ok (.return_, 1) := dk_177 (dk_at dksJ9_init_4_1 14 rfl rfl)
abbrev cJ10_init_3 : ByteArray := prog_36_method_1_code
theorem dJ10_init_3_0 : decode cJ10_init_3 0 = .ok (.aload_n 0, 1) := by decide +kernel
theorem dJ10_init_3_1 : decode cJ10_init_3 1 = .ok (.invokespecial 1, 3) := by decide +kernel
theorem dJ10_init_3_4 : decode cJ10_init_3 4 = .ok (.return_, 1) := by decide +kernel
abbrev cJ10_init_4 : ByteArray := prog_36_method_3_code
def dkwJ10_init_4_0 : List UInt8 := [42, 43, 44, 183, 0, 10, 177]
abbrev dktJ10_init_4_0 : List UInt8 := dkwJ10_init_4_0 ++ []
theorem dksJ10_init_4_0 : cJ10_init_4.data.toList.drop 0 = dktJ10_init_4_0 := by decide +kernel
theorem dJ10_init_4_0 : decode cJ10_init_4 0 = .ok (.aload_n 0, 1) := dk_42 (dk_at dksJ10_init_4_0 0 rfl rfl)
theorem dJ10_init_4_1 : decode cJ10_init_4 1 = .ok (.aload_n 1, 1) := dk_43 (dk_at dksJ10_init_4_0 1 rfl rfl)
theorem dJ10_init_4_2 : decode cJ10_init_4 2 = .ok (.aload_n 2, 1) := dk_44 (dk_at dksJ10_init_4_0 2 rfl rfl)
theorem dJ10_init_4_3 : decode cJ10_init_4 3 = .ok (.invokespecial 10, 3) := dk_183 0 10 (dk_at dksJ10_init_4_0 3 rfl rfl)
theorem dJ10_init_4_6 : decode cJ10_init_4 6 = .ok (.return_, 1) := dk_177 (dk_at dksJ10_init_4_0 6 rfl rfl)
abbrev cJ11_init_3 : ByteArray := prog_47_method_1_code
theorem dJ11_init_3_0 : decode cJ11_init_3 0 = .ok (.aload_n 0, 1) := by decide +kernel
theorem dJ11_init_3_1 : decode cJ11_init_3 1 = .ok (.invokespecial 1, 3) := by decide +kernel
theorem dJ11_init_3_4 : decode cJ11_init_3 4 = .ok (.return_, 1) := by decide +kernel
abbrev cJ12_init_2 : ByteArray := prog_37_method_1_code
theorem dJ12_init_2_0 : decode cJ12_init_2 0 = .ok (.aload_n 0, 1) := by decide +kernel
theorem dJ12_init_2_1 : decode cJ12_init_2 1 = .ok (.invokespecial 1, 3) := by decide +kernel
theorem dJ12_init_2_4 : decode cJ12_init_2 4 = .ok (.return_, 1) := by decide +kernel
abbrev cJ0_init : ByteArray := prog_59_method_1_code
theorem dJ0_init_0 : decode cJ0_init 0 = .ok (.aload_n 0, 1) := by decide +kernel
theorem dJ0_init_1 : decode cJ0_init 1 = .ok (.invokespecial 1, 3) := by decide +kernel
theorem dJ0_init_4 : decode cJ0_init 4 = .ok (.return_, 1) := by decide +kernel
abbrev cJ1_init : ByteArray := prog_60_method_1_code
def dkwJ1_init_0 : List UInt8 := [42, 183, 0, 1, 42, 3, 181, 0, 7, 177]
abbrev dktJ1_init_0 : List UInt8 := dkwJ1_init_0 ++ []
theorem dksJ1_init_0 : cJ1_init.data.toList.drop 0 = dktJ1_init_0 := by decide +kernel
theorem dJ1_init_0 : decode cJ1_init 0 = .ok (.aload_n 0, 1) := dk_42 (dk_at dksJ1_init_0 0 rfl rfl)
theorem dJ1_init_1 : decode cJ1_init 1 = .ok (.invokespecial 1, 3) := dk_183 0 1 (dk_at dksJ1_init_0 1 rfl rfl)
theorem dJ1_init_4 : decode cJ1_init 4 = .ok (.aload_n 0, 1) := dk_42 (dk_at dksJ1_init_0 4 rfl rfl)
theorem dJ1_init_5 : decode cJ1_init 5 = .ok (.iconst 0, 1) := dk_3 (dk_at dksJ1_init_0 5 rfl rfl)
theorem dJ1_init_6 : decode cJ1_init 6 = .ok (.putfield 7, 3) := dk_181 0 7 (dk_at dksJ1_init_0 6 rfl rfl)
theorem dJ1_init_9 : decode cJ1_init 9 = .ok (.return_, 1) := dk_177 (dk_at dksJ1_init_0 9 rfl rfl)
abbrev cJ2_init : ByteArray := prog_66_method_2_code
def dkwJ2_init_0 : List UInt8 := [42, 183, 0, 1, 42, 178, 0, 39, 181, 0, 9, 177]
abbrev dktJ2_init_0 : List UInt8 := dkwJ2_init_0 ++ []
theorem dksJ2_init_0 : cJ2_init.data.toList.drop 0 = dktJ2_init_0 := by decide +kernel
theorem dJ2_init_0 : decode cJ2_init 0 = .ok (.aload_n 0, 1) := dk_42 (dk_at dksJ2_init_0 0 rfl rfl)
theorem dJ2_init_1 : decode cJ2_init 1 = .ok (.invokespecial 1, 3) := dk_183 0 1 (dk_at dksJ2_init_0 1 rfl rfl)
theorem dJ2_init_4 : decode cJ2_init 4 = .ok (.aload_n 0, 1) := dk_42 (dk_at dksJ2_init_0 4 rfl rfl)
theorem dJ2_init_5 : decode cJ2_init 5 = .ok (.getstatic 39, 3) := dk_178 0 39 (dk_at dksJ2_init_0 5 rfl rfl)
theorem dJ2_init_8 : decode cJ2_init 8 = .ok (.putfield 9, 3) := dk_181 0 9 (dk_at dksJ2_init_0 8 rfl rfl)
theorem dJ2_init_11 : decode cJ2_init 11 = .ok (.return_, 1) := dk_177 (dk_at dksJ2_init_0 11 rfl rfl)
abbrev cJ2_iterator : ByteArray := prog_66_method_55_code
def dkwJ2_iterator_0 : List UInt8 := [187, 1, 11, 89, 42, 183, 1, 13, 176]
abbrev dktJ2_iterator_0 : List UInt8 := dkwJ2_iterator_0 ++ []
theorem dksJ2_iterator_0 : cJ2_iterator.data.toList.drop 0 = dktJ2_iterator_0 := by decide +kernel
theorem dJ2_iterator_0 : decode cJ2_iterator 0 = .ok (.new 267, 3) := dk_187 1 11 (dk_at dksJ2_iterator_0 0 rfl rfl)
theorem dJ2_iterator_3 : decode cJ2_iterator 3 = .ok (.dup, 1) := dk_89 (dk_at dksJ2_iterator_0 3 rfl rfl)
theorem dJ2_iterator_4 : decode cJ2_iterator 4 = .ok (.aload_n 0, 1) := dk_42 (dk_at dksJ2_iterator_0 4 rfl rfl)
theorem dJ2_iterator_5 : decode cJ2_iterator 5 = .ok (.invokespecial 269, 3) := dk_183 1 13 (dk_at dksJ2_iterator_0 5 rfl rfl)
theorem dJ2_iterator_8 : decode cJ2_iterator 8 = .ok (.areturn, 1) := dk_176 (dk_at dksJ2_iterator_0 8 rfl rfl)
abbrev cJ2_size : ByteArray := prog_66_method_8_code
theorem dJ2_size_0 : decode cJ2_size 0 = .ok (.aload_n 0, 1) := by decide +kernel
theorem dJ2_size_1 : decode cJ2_size 1 = .ok (.getfield 48, 3) := by decide +kernel
theorem dJ2_size_4 : decode cJ2_size 4 = .ok (.ireturn, 1) := by decide +kernel
abbrev cJ2_get : ByteArray := prog_66_method_20_code
def dkwJ2_get_0 : List UInt8 := [27, 42, 180, 0, 48, 184, 0, 118, 87, 42, 27, 182, 0, 123, 176]
abbrev dktJ2_get_0 : List UInt8 := dkwJ2_get_0 ++ []
theorem dksJ2_get_0 : cJ2_get.data.toList.drop 0 = dktJ2_get_0 := by decide +kernel
theorem dJ2_get_0 : decode cJ2_get 0 = .ok (.iload_n 1, 1) := dk_27 (dk_at dksJ2_get_0 0 rfl rfl)
theorem dJ2_get_1 : decode cJ2_get 1 = .ok (.aload_n 0, 1) := dk_42 (dk_at dksJ2_get_0 1 rfl rfl)
theorem dJ2_get_2 : decode cJ2_get 2 = .ok (.getfield 48, 3) := dk_180 0 48 (dk_at dksJ2_get_0 2 rfl rfl)
theorem dJ2_get_5 : decode cJ2_get 5 = .ok (.invokestatic 118, 3) := dk_184 0 118 (dk_at dksJ2_get_0 5 rfl rfl)
theorem dJ2_get_8 : decode cJ2_get 8 = .ok (.pop, 1) := dk_87 (dk_at dksJ2_get_0 8 rfl rfl)
theorem dJ2_get_9 : decode cJ2_get 9 = .ok (.aload_n 0, 1) := dk_42 (dk_at dksJ2_get_0 9 rfl rfl)
theorem dJ2_get_10 : decode cJ2_get 10 = .ok (.iload_n 1, 1) := dk_27 (dk_at dksJ2_get_0 10 rfl rfl)
theorem dJ2_get_11 : decode cJ2_get 11 = .ok (.invokevirtual 123, 3) := dk_182 0 123 (dk_at dksJ2_get_0 11 rfl rfl)
theorem dJ2_get_14 : decode cJ2_get 14 = .ok (.areturn, 1) := dk_176 (dk_at dksJ2_get_0 14 rfl rfl)
abbrev cJ2_elementData : ByteArray := prog_66_method_18_code
def dkwJ2_elementData_0 : List UInt8 := [42, 180, 0, 9, 27, 50, 176]
abbrev dktJ2_elementData_0 : List UInt8 := dkwJ2_elementData_0 ++ []
theorem dksJ2_elementData_0 : cJ2_elementData.data.toList.drop 0 = dktJ2_elementData_0 := by decide +kernel
theorem dJ2_elementData_0 : decode cJ2_elementData 0 = .ok (.aload_n 0, 1) := dk_42 (dk_at dksJ2_elementData_0 0 rfl rfl)
theorem dJ2_elementData_1 : decode cJ2_elementData 1 = .ok (.getfield 9, 3) := dk_180 0 9 (dk_at dksJ2_elementData_0 1 rfl rfl)
theorem dJ2_elementData_4 : decode cJ2_elementData 4 = .ok (.iload_n 1, 1) := dk_27 (dk_at dksJ2_elementData_0 4 rfl rfl)
theorem dJ2_elementData_5 : decode cJ2_elementData 5 = .ok (.aaload, 1) := dk_50 (dk_at dksJ2_elementData_0 5 rfl rfl)
theorem dJ2_elementData_6 : decode cJ2_elementData 6 = .ok (.areturn, 1) := dk_176 (dk_at dksJ2_elementData_0 6 rfl rfl)
abbrev cJ2_addAll : ByteArray := prog_66_method_41_code
def dkwJ2_addAll_3 : List UInt8 := [181, 0, 48, 4, 172]
abbrev dktJ2_addAll_3 : List UInt8 := dkwJ2_addAll_3 ++ []
def dkwJ2_addAll_2 : List UInt8 := [21, 5, 29, 96, 182, 0, 69, 58, 4, 44, 3, 25, 4, 21, 5, 29, 184, 0, 112, 42, 21, 5, 29, 96]
abbrev dktJ2_addAll_2 : List UInt8 := dkwJ2_addAll_2 ++ dktJ2_addAll_3
def dkwJ2_addAll_1 : List UInt8 := [3, 172, 29, 42, 180, 0, 9, 89, 58, 4, 190, 42, 180, 0, 48, 89, 54, 5, 100, 164, 0, 13, 42]
abbrev dktJ2_addAll_1 : List UInt8 := dkwJ2_addAll_1 ++ dktJ2_addAll_2
def dkwJ2_addAll_0 : List UInt8 := [43, 185, 0, 42, 1, 0, 77, 42, 89, 180, 0, 63, 4, 96, 181, 0, 63, 44, 190, 62, 29, 154, 0, 5]
abbrev dktJ2_addAll_0 : List UInt8 := dkwJ2_addAll_0 ++ dktJ2_addAll_1
theorem dksJ2_addAll_0 : cJ2_addAll.data.toList.drop 0 = dktJ2_addAll_0 := by decide +kernel
theorem dksJ2_addAll_1 : cJ2_addAll.data.toList.drop 24 = dktJ2_addAll_1 := dk_seg dksJ2_addAll_0 24 rfl rfl
theorem dksJ2_addAll_2 : cJ2_addAll.data.toList.drop 47 = dktJ2_addAll_2 := dk_seg dksJ2_addAll_1 23 rfl rfl
theorem dksJ2_addAll_3 : cJ2_addAll.data.toList.drop 71 = dktJ2_addAll_3 := dk_seg dksJ2_addAll_2 24 rfl rfl
theorem dJ2_addAll_0 : decode cJ2_addAll 0 = .ok (.aload_n 1, 1) := dk_43 (dk_at dksJ2_addAll_0 0 rfl rfl)
theorem dJ2_addAll_1 : decode cJ2_addAll 1 = .ok (.invokeinterface 42 1, 5) := by decide +kernel
theorem dJ2_addAll_6 : decode cJ2_addAll 6 = .ok (.astore_n 2, 1) := dk_77 (dk_at dksJ2_addAll_0 6 rfl rfl)
theorem dJ2_addAll_7 : decode cJ2_addAll 7 = .ok (.aload_n 0, 1) := dk_42 (dk_at dksJ2_addAll_0 7 rfl rfl)
theorem dJ2_addAll_8 : decode cJ2_addAll 8 = .ok (.dup, 1) := dk_89 (dk_at dksJ2_addAll_0 8 rfl rfl)
theorem dJ2_addAll_9 : decode cJ2_addAll 9 = .ok (.getfield 63, 3) := dk_180 0 63 (dk_at dksJ2_addAll_0 9 rfl rfl)
theorem dJ2_addAll_12 : decode cJ2_addAll 12 = .ok (.iconst 1, 1) := dk_4 (dk_at dksJ2_addAll_0 12 rfl rfl)
theorem dJ2_addAll_13 : decode cJ2_addAll 13 = .ok (.iadd, 1) := dk_96 (dk_at dksJ2_addAll_0 13 rfl rfl)
theorem dJ2_addAll_14 : decode cJ2_addAll 14 = .ok (.putfield 63, 3) := dk_181 0 63 (dk_at dksJ2_addAll_0 14 rfl rfl)
theorem dJ2_addAll_17 : decode cJ2_addAll 17 = .ok (.aload_n 2, 1) := dk_44 (dk_at dksJ2_addAll_0 17 rfl rfl)
theorem dJ2_addAll_18 : decode cJ2_addAll 18 = .ok (.arraylength, 1) := dk_190 (dk_at dksJ2_addAll_0 18 rfl rfl)
theorem dJ2_addAll_19 : decode cJ2_addAll 19 = .ok (.istore_n 3, 1) := dk_62 (dk_at dksJ2_addAll_0 19 rfl rfl)
theorem dJ2_addAll_20 : decode cJ2_addAll 20 = .ok (.iload_n 3, 1) := dk_29 (dk_at dksJ2_addAll_0 20 rfl rfl)
theorem dJ2_addAll_21 : decode cJ2_addAll 21 = .ok (.ifCond .ne 5, 3) := dk_154 0 5 (dk_at dksJ2_addAll_0 21 rfl rfl)
theorem dJ2_addAll_24 : decode cJ2_addAll 24 = .ok (.iconst 0, 1) := dk_3 (dk_at dksJ2_addAll_1 0 rfl rfl)
theorem dJ2_addAll_25 : decode cJ2_addAll 25 = .ok (.ireturn, 1) := dk_172 (dk_at dksJ2_addAll_1 1 rfl rfl)
theorem dJ2_addAll_26 : decode cJ2_addAll 26 = .ok (.iload_n 3, 1) := dk_29 (dk_at dksJ2_addAll_1 2 rfl rfl)
theorem dJ2_addAll_27 : decode cJ2_addAll 27 = .ok (.aload_n 0, 1) := dk_42 (dk_at dksJ2_addAll_1 3 rfl rfl)
theorem dJ2_addAll_28 : decode cJ2_addAll 28 = .ok (.getfield 9, 3) := dk_180 0 9 (dk_at dksJ2_addAll_1 4 rfl rfl)
theorem dJ2_addAll_31 : decode cJ2_addAll 31 = .ok (.dup, 1) := dk_89 (dk_at dksJ2_addAll_1 7 rfl rfl)
theorem dJ2_addAll_32 : decode cJ2_addAll 32 = .ok (.astore 4, 2) := dk_58 4 (dk_at dksJ2_addAll_1 8 rfl rfl)
theorem dJ2_addAll_34 : decode cJ2_addAll 34 = .ok (.arraylength, 1) := dk_190 (dk_at dksJ2_addAll_1 10 rfl rfl)
theorem dJ2_addAll_35 : decode cJ2_addAll 35 = .ok (.aload_n 0, 1) := dk_42 (dk_at dksJ2_addAll_1 11 rfl rfl)
theorem dJ2_addAll_36 : decode cJ2_addAll 36 = .ok (.getfield 48, 3) := dk_180 0 48 (dk_at dksJ2_addAll_1 12 rfl rfl)
theorem dJ2_addAll_39 : decode cJ2_addAll 39 = .ok (.dup, 1) := dk_89 (dk_at dksJ2_addAll_1 15 rfl rfl)
theorem dJ2_addAll_40 : decode cJ2_addAll 40 = .ok (.istore 5, 2) := dk_54 5 (dk_at dksJ2_addAll_1 16 rfl rfl)
theorem dJ2_addAll_42 : decode cJ2_addAll 42 = .ok (.isub, 1) := dk_100 (dk_at dksJ2_addAll_1 18 rfl rfl)
theorem dJ2_addAll_43 : decode cJ2_addAll 43 = .ok (.if_icmp .le 13, 3) := dk_164 0 13 (dk_at dksJ2_addAll_1 19 rfl rfl)
theorem dJ2_addAll_46 : decode cJ2_addAll 46 = .ok (.aload_n 0, 1) := dk_42 (dk_at dksJ2_addAll_1 22 rfl rfl)
theorem dJ2_addAll_47 : decode cJ2_addAll 47 = .ok (.iload 5, 2) := dk_21 5 (dk_at dksJ2_addAll_2 0 rfl rfl)
theorem dJ2_addAll_49 : decode cJ2_addAll 49 = .ok (.iload_n 3, 1) := dk_29 (dk_at dksJ2_addAll_2 2 rfl rfl)
theorem dJ2_addAll_50 : decode cJ2_addAll 50 = .ok (.iadd, 1) := dk_96 (dk_at dksJ2_addAll_2 3 rfl rfl)
theorem dJ2_addAll_51 : decode cJ2_addAll 51 = .ok (.invokevirtual 69, 3) := dk_182 0 69 (dk_at dksJ2_addAll_2 4 rfl rfl)
theorem dJ2_addAll_54 : decode cJ2_addAll 54 = .ok (.astore 4, 2) := dk_58 4 (dk_at dksJ2_addAll_2 7 rfl rfl)
theorem dJ2_addAll_56 : decode cJ2_addAll 56 = .ok (.aload_n 2, 1) := dk_44 (dk_at dksJ2_addAll_2 9 rfl rfl)
theorem dJ2_addAll_57 : decode cJ2_addAll 57 = .ok (.iconst 0, 1) := dk_3 (dk_at dksJ2_addAll_2 10 rfl rfl)
theorem dJ2_addAll_58 : decode cJ2_addAll 58 = .ok (.aload 4, 2) := dk_25 4 (dk_at dksJ2_addAll_2 11 rfl rfl)
theorem dJ2_addAll_60 : decode cJ2_addAll 60 = .ok (.iload 5, 2) := dk_21 5 (dk_at dksJ2_addAll_2 13 rfl rfl)
theorem dJ2_addAll_62 : decode cJ2_addAll 62 = .ok (.iload_n 3, 1) := dk_29 (dk_at dksJ2_addAll_2 15 rfl rfl)
theorem dJ2_addAll_63 : decode cJ2_addAll 63 = .ok (.invokestatic 112, 3) := dk_184 0 112 (dk_at dksJ2_addAll_2 16 rfl rfl)
theorem dJ2_addAll_66 : decode cJ2_addAll 66 = .ok (.aload_n 0, 1) := dk_42 (dk_at dksJ2_addAll_2 19 rfl rfl)
theorem dJ2_addAll_67 : decode cJ2_addAll 67 = .ok (.iload 5, 2) := dk_21 5 (dk_at dksJ2_addAll_2 20 rfl rfl)
theorem dJ2_addAll_69 : decode cJ2_addAll 69 = .ok (.iload_n 3, 1) := dk_29 (dk_at dksJ2_addAll_2 22 rfl rfl)
theorem dJ2_addAll_70 : decode cJ2_addAll 70 = .ok (.iadd, 1) := dk_96 (dk_at dksJ2_addAll_2 23 rfl rfl)
theorem dJ2_addAll_71 : decode cJ2_addAll 71 = .ok (.putfield 48, 3) := dk_181 0 48 (dk_at dksJ2_addAll_3 0 rfl rfl)
theorem dJ2_addAll_74 : decode cJ2_addAll 74 = .ok (.iconst 1, 1) := dk_4 (dk_at dksJ2_addAll_3 3 rfl rfl)
theorem dJ2_addAll_75 : decode cJ2_addAll 75 = .ok (.ireturn, 1) := dk_172 (dk_at dksJ2_addAll_3 4 rfl rfl)
abbrev cJ2_toArray : ByteArray := prog_66_method_16_code
def dkwJ2_toArray_0 : List UInt8 := [42, 180, 0, 9, 42, 180, 0, 48, 184, 0, 66, 176]
abbrev dktJ2_toArray_0 : List UInt8 := dkwJ2_toArray_0 ++ []
theorem dksJ2_toArray_0 : cJ2_toArray.data.toList.drop 0 = dktJ2_toArray_0 := by decide +kernel
theorem dJ2_toArray_0 : decode cJ2_toArray 0 = .ok (.aload_n 0, 1) := dk_42 (dk_at dksJ2_toArray_0 0 rfl rfl)
theorem dJ2_toArray_1 : decode cJ2_toArray 1 = .ok (.getfield 9, 3) := dk_180 0 9 (dk_at dksJ2_toArray_0 1 rfl rfl)
theorem dJ2_toArray_4 : decode cJ2_toArray 4 = .ok (.aload_n 0, 1) := dk_42 (dk_at dksJ2_toArray_0 4 rfl rfl)
theorem dJ2_toArray_5 : decode cJ2_toArray 5 = .ok (.getfield 48, 3) := dk_180 0 48 (dk_at dksJ2_toArray_0 5 rfl rfl)
theorem dJ2_toArray_8 : decode cJ2_toArray 8 = .ok (.invokestatic 66, 3) := dk_184 0 66 (dk_at dksJ2_toArray_0 8 rfl rfl)
theorem dJ2_toArray_11 : decode cJ2_toArray 11 = .ok (.areturn, 1) := dk_176 (dk_at dksJ2_toArray_0 11 rfl rfl)
abbrev cJ2_grow : ByteArray := prog_66_method_6_code
def dkwJ2_grow_2 : List UInt8 := [27, 184, 0, 79, 189, 0, 7, 90, 181, 0, 9, 176]
abbrev dktJ2_grow_2 : List UInt8 := dkwJ2_grow_2 ++ []
def dkwJ2_grow_1 : List UInt8 := [28, 4, 122, 184, 0, 73, 62, 42, 42, 180, 0, 9, 29, 184, 0, 66, 90, 181, 0, 9, 176, 42, 16, 10]
abbrev dktJ2_grow_1 : List UInt8 := dkwJ2_grow_1 ++ dktJ2_grow_2
def dkwJ2_grow_0 : List UInt8 := [42, 180, 0, 9, 190, 61, 28, 157, 0, 13, 42, 180, 0, 9, 178, 0, 39, 165, 0, 28, 28, 27, 28, 100]
abbrev dktJ2_grow_0 : List UInt8 := dkwJ2_grow_0 ++ dktJ2_grow_1
theorem dksJ2_grow_0 : cJ2_grow.data.toList.drop 0 = dktJ2_grow_0 := by decide +kernel
theorem dksJ2_grow_1 : cJ2_grow.data.toList.drop 24 = dktJ2_grow_1 := dk_seg dksJ2_grow_0 24 rfl rfl
theorem dksJ2_grow_2 : cJ2_grow.data.toList.drop 48 = dktJ2_grow_2 := dk_seg dksJ2_grow_1 24 rfl rfl
theorem dJ2_grow_0 : decode cJ2_grow 0 = .ok (.aload_n 0, 1) := dk_42 (dk_at dksJ2_grow_0 0 rfl rfl)
theorem dJ2_grow_1 : decode cJ2_grow 1 = .ok (.getfield 9, 3) := dk_180 0 9 (dk_at dksJ2_grow_0 1 rfl rfl)
theorem dJ2_grow_4 : decode cJ2_grow 4 = .ok (.arraylength, 1) := dk_190 (dk_at dksJ2_grow_0 4 rfl rfl)
theorem dJ2_grow_5 : decode cJ2_grow 5 = .ok (.istore_n 2, 1) := dk_61 (dk_at dksJ2_grow_0 5 rfl rfl)
theorem dJ2_grow_6 : decode cJ2_grow 6 = .ok (.iload_n 2, 1) := dk_28 (dk_at dksJ2_grow_0 6 rfl rfl)
theorem dJ2_grow_7 : decode cJ2_grow 7 = .ok (.ifCond .gt 13, 3) := dk_157 0 13 (dk_at dksJ2_grow_0 7 rfl rfl)
theorem dJ2_grow_10 : decode cJ2_grow 10 = .ok (.aload_n 0, 1) := dk_42 (dk_at dksJ2_grow_0 10 rfl rfl)
theorem dJ2_grow_11 : decode cJ2_grow 11 = .ok (.getfield 9, 3) := dk_180 0 9 (dk_at dksJ2_grow_0 11 rfl rfl)
theorem dJ2_grow_14 : decode cJ2_grow 14 = .ok (.getstatic 39, 3) := dk_178 0 39 (dk_at dksJ2_grow_0 14 rfl rfl)
theorem dJ2_grow_17 : decode cJ2_grow 17 = .ok (.if_acmp .eq 28, 3) := dk_165 0 28 (dk_at dksJ2_grow_0 17 rfl rfl)
theorem dJ2_grow_20 : decode cJ2_grow 20 = .ok (.iload_n 2, 1) := dk_28 (dk_at dksJ2_grow_0 20 rfl rfl)
theorem dJ2_grow_21 : decode cJ2_grow 21 = .ok (.iload_n 1, 1) := dk_27 (dk_at dksJ2_grow_0 21 rfl rfl)
theorem dJ2_grow_22 : decode cJ2_grow 22 = .ok (.iload_n 2, 1) := dk_28 (dk_at dksJ2_grow_0 22 rfl rfl)
theorem dJ2_grow_23 : decode cJ2_grow 23 = .ok (.isub, 1) := dk_100 (dk_at dksJ2_grow_0 23 rfl rfl)
theorem dJ2_grow_24 : decode cJ2_grow 24 = .ok (.iload_n 2, 1) := dk_28 (dk_at dksJ2_grow_1 0 rfl rfl)
theorem dJ2_grow_25 : decode cJ2_grow 25 = .ok (.iconst 1, 1) := dk_4 (dk_at dksJ2_grow_1 1 rfl rfl)
theorem dJ2_grow_26 : decode cJ2_grow 26 = .ok (.ishr, 1) := dk_122 (dk_at dksJ2_grow_1 2 rfl rfl)
theorem dJ2_grow_27 : decode cJ2_grow 27 = .ok (.invokestatic 73, 3) := dk_184 0 73 (dk_at dksJ2_grow_1 3 rfl rfl)
theorem dJ2_grow_30 : decode cJ2_grow 30 = .ok (.istore_n 3, 1) := dk_62 (dk_at dksJ2_grow_1 6 rfl rfl)
theorem dJ2_grow_31 : decode cJ2_grow 31 = .ok (.aload_n 0, 1) := dk_42 (dk_at dksJ2_grow_1 7 rfl rfl)
theorem dJ2_grow_32 : decode cJ2_grow 32 = .ok (.aload_n 0, 1) := dk_42 (dk_at dksJ2_grow_1 8 rfl rfl)
theorem dJ2_grow_33 : decode cJ2_grow 33 = .ok (.getfield 9, 3) := dk_180 0 9 (dk_at dksJ2_grow_1 9 rfl rfl)
theorem dJ2_grow_36 : decode cJ2_grow 36 = .ok (.iload_n 3, 1) := dk_29 (dk_at dksJ2_grow_1 12 rfl rfl)
theorem dJ2_grow_37 : decode cJ2_grow 37 = .ok (.invokestatic 66, 3) := dk_184 0 66 (dk_at dksJ2_grow_1 13 rfl rfl)
theorem dJ2_grow_40 : decode cJ2_grow 40 = .ok (.dup_x1, 1) := dk_90 (dk_at dksJ2_grow_1 16 rfl rfl)
theorem dJ2_grow_41 : decode cJ2_grow 41 = .ok (.putfield 9, 3) := dk_181 0 9 (dk_at dksJ2_grow_1 17 rfl rfl)
theorem dJ2_grow_44 : decode cJ2_grow 44 = .ok (.areturn, 1) := dk_176 (dk_at dksJ2_grow_1 20 rfl rfl)
theorem dJ2_grow_45 : decode cJ2_grow 45 = .ok (.aload_n 0, 1) := dk_42 (dk_at dksJ2_grow_1 21 rfl rfl)
theorem dJ2_grow_46 : decode cJ2_grow 46 = .ok (.bipush 10, 2) := dk_16 10 (dk_at dksJ2_grow_1 22 rfl rfl)
theorem dJ2_grow_48 : decode cJ2_grow 48 = .ok (.iload_n 1, 1) := dk_27 (dk_at dksJ2_grow_2 0 rfl rfl)
theorem dJ2_grow_49 : decode cJ2_grow 49 = .ok (.invokestatic 79, 3) := dk_184 0 79 (dk_at dksJ2_grow_2 1 rfl rfl)
theorem dJ2_grow_52 : decode cJ2_grow 52 = .ok (.anewarray 7, 3) := dk_189 0 7 (dk_at dksJ2_grow_2 4 rfl rfl)
theorem dJ2_grow_55 : decode cJ2_grow 55 = .ok (.dup_x1, 1) := dk_90 (dk_at dksJ2_grow_2 7 rfl rfl)
theorem dJ2_grow_56 : decode cJ2_grow 56 = .ok (.putfield 9, 3) := dk_181 0 9 (dk_at dksJ2_grow_2 8 rfl rfl)
theorem dJ2_grow_59 : decode cJ2_grow 59 = .ok (.areturn, 1) := dk_176 (dk_at dksJ2_grow_2 11 rfl rfl)
abbrev cJ2_add : ByteArray := prog_66_method_25_code
def dkwJ2_add_1 : List UInt8 := [172]
abbrev dktJ2_add_1 : List UInt8 := dkwJ2_add_1 ++ []
def dkwJ2_add_0 : List UInt8 := [42, 89, 180, 0, 63, 4, 96, 181, 0, 63, 42, 43, 42, 180, 0, 9, 42, 180, 0, 48, 182, 0, 131, 4]
abbrev dktJ2_add_0 : List UInt8 := dkwJ2_add_0 ++ dktJ2_add_1
theorem dksJ2_add_0 : cJ2_add.data.toList.drop 0 = dktJ2_add_0 := by decide +kernel
theorem dksJ2_add_1 : cJ2_add.data.toList.drop 24 = dktJ2_add_1 := dk_seg dksJ2_add_0 24 rfl rfl
theorem dJ2_add_0 : decode cJ2_add 0 = .ok (.aload_n 0, 1) := dk_42 (dk_at dksJ2_add_0 0 rfl rfl)
theorem dJ2_add_1 : decode cJ2_add 1 = .ok (.dup, 1) := dk_89 (dk_at dksJ2_add_0 1 rfl rfl)
theorem dJ2_add_2 : decode cJ2_add 2 = .ok (.getfield 63, 3) := dk_180 0 63 (dk_at dksJ2_add_0 2 rfl rfl)
theorem dJ2_add_5 : decode cJ2_add 5 = .ok (.iconst 1, 1) := dk_4 (dk_at dksJ2_add_0 5 rfl rfl)
theorem dJ2_add_6 : decode cJ2_add 6 = .ok (.iadd, 1) := dk_96 (dk_at dksJ2_add_0 6 rfl rfl)
theorem dJ2_add_7 : decode cJ2_add 7 = .ok (.putfield 63, 3) := dk_181 0 63 (dk_at dksJ2_add_0 7 rfl rfl)
theorem dJ2_add_10 : decode cJ2_add 10 = .ok (.aload_n 0, 1) := dk_42 (dk_at dksJ2_add_0 10 rfl rfl)
theorem dJ2_add_11 : decode cJ2_add 11 = .ok (.aload_n 1, 1) := dk_43 (dk_at dksJ2_add_0 11 rfl rfl)
theorem dJ2_add_12 : decode cJ2_add 12 = .ok (.aload_n 0, 1) := dk_42 (dk_at dksJ2_add_0 12 rfl rfl)
theorem dJ2_add_13 : decode cJ2_add 13 = .ok (.getfield 9, 3) := dk_180 0 9 (dk_at dksJ2_add_0 13 rfl rfl)
theorem dJ2_add_16 : decode cJ2_add 16 = .ok (.aload_n 0, 1) := dk_42 (dk_at dksJ2_add_0 16 rfl rfl)
theorem dJ2_add_17 : decode cJ2_add 17 = .ok (.getfield 48, 3) := dk_180 0 48 (dk_at dksJ2_add_0 17 rfl rfl)
theorem dJ2_add_20 : decode cJ2_add 20 = .ok (.invokevirtual 131, 3) := dk_182 0 131 (dk_at dksJ2_add_0 20 rfl rfl)
theorem dJ2_add_23 : decode cJ2_add 23 = .ok (.iconst 1, 1) := dk_4 (dk_at dksJ2_add_0 23 rfl rfl)
theorem dJ2_add_24 : decode cJ2_add 24 = .ok (.ireturn, 1) := dk_172 (dk_at dksJ2_add_1 0 rfl rfl)
abbrev cJ2_add_2 : ByteArray := prog_66_method_24_code
def dkwJ2_add_2_0 : List UInt8 := [29, 44, 190, 160, 0, 8, 42, 182, 0, 129, 77, 44, 29, 43, 83, 42, 29, 4, 96, 181, 0, 48, 177]
abbrev dktJ2_add_2_0 : List UInt8 := dkwJ2_add_2_0 ++ []
theorem dksJ2_add_2_0 : cJ2_add_2.data.toList.drop 0 = dktJ2_add_2_0 := by decide +kernel
theorem dJ2_add_2_0 : decode cJ2_add_2 0 = .ok (.iload_n 3, 1) := dk_29 (dk_at dksJ2_add_2_0 0 rfl rfl)
theorem dJ2_add_2_1 : decode cJ2_add_2 1 = .ok (.aload_n 2, 1) := dk_44 (dk_at dksJ2_add_2_0 1 rfl rfl)
theorem dJ2_add_2_2 : decode cJ2_add_2 2 = .ok (.arraylength, 1) := dk_190 (dk_at dksJ2_add_2_0 2 rfl rfl)
theorem dJ2_add_2_3 : decode cJ2_add_2 3 = .ok (.if_icmp .ne 8, 3) := dk_160 0 8 (dk_at dksJ2_add_2_0 3 rfl rfl)
theorem dJ2_add_2_6 : decode cJ2_add_2 6 = .ok (.aload_n 0, 1) := dk_42 (dk_at dksJ2_add_2_0 6 rfl rfl)
theorem dJ2_add_2_7 : decode cJ2_add_2 7 = .ok (.invokevirtual 129, 3) := dk_182 0 129 (dk_at dksJ2_add_2_0 7 rfl rfl)
theorem dJ2_add_2_10 : decode cJ2_add_2 10 = .ok (.astore_n 2, 1) := dk_77 (dk_at dksJ2_add_2_0 10 rfl rfl)
theorem dJ2_add_2_11 : decode cJ2_add_2 11 = .ok (.aload_n 2, 1) := dk_44 (dk_at dksJ2_add_2_0 11 rfl rfl)
theorem dJ2_add_2_12 : decode cJ2_add_2 12 = .ok (.iload_n 3, 1) := dk_29 (dk_at dksJ2_add_2_0 12 rfl rfl)
theorem dJ2_add_2_13 : decode cJ2_add_2 13 = .ok (.aload_n 1, 1) := dk_43 (dk_at dksJ2_add_2_0 13 rfl rfl)
theorem dJ2_add_2_14 : decode cJ2_add_2 14 = .ok (.aastore, 1) := dk_83 (dk_at dksJ2_add_2_0 14 rfl rfl)
theorem dJ2_add_2_15 : decode cJ2_add_2 15 = .ok (.aload_n 0, 1) := dk_42 (dk_at dksJ2_add_2_0 15 rfl rfl)
theorem dJ2_add_2_16 : decode cJ2_add_2 16 = .ok (.iload_n 3, 1) := dk_29 (dk_at dksJ2_add_2_0 16 rfl rfl)
theorem dJ2_add_2_17 : decode cJ2_add_2 17 = .ok (.iconst 1, 1) := dk_4 (dk_at dksJ2_add_2_0 17 rfl rfl)
theorem dJ2_add_2_18 : decode cJ2_add_2 18 = .ok (.iadd, 1) := dk_96 (dk_at dksJ2_add_2_0 18 rfl rfl)
theorem dJ2_add_2_19 : decode cJ2_add_2 19 = .ok (.putfield 48, 3) := dk_181 0 48 (dk_at dksJ2_add_2_0 19 rfl rfl)
theorem dJ2_add_2_22 : decode cJ2_add_2 22 = .ok (.return_, 1) := dk_177 (dk_at dksJ2_add_2_0 22 rfl rfl)
abbrev cJ2_grow_2 : ByteArray := prog_66_method_7_code
def dkwJ2_grow_2_0 : List UInt8 := [42, 42, 180, 0, 48, 4, 96, 182, 0, 69, 176]
abbrev dktJ2_grow_2_0 : List UInt8 := dkwJ2_grow_2_0 ++ []
theorem dksJ2_grow_2_0 : cJ2_grow_2.data.toList.drop 0 = dktJ2_grow_2_0 := by decide +kernel
theorem dJ2_grow_2_0 : decode cJ2_grow_2 0 = .ok (.aload_n 0, 1) := dk_42 (dk_at dksJ2_grow_2_0 0 rfl rfl)
theorem dJ2_grow_2_1 : decode cJ2_grow_2 1 = .ok (.aload_n 0, 1) := dk_42 (dk_at dksJ2_grow_2_0 1 rfl rfl)
theorem dJ2_grow_2_2 : decode cJ2_grow_2 2 = .ok (.getfield 48, 3) := dk_180 0 48 (dk_at dksJ2_grow_2_0 2 rfl rfl)
theorem dJ2_grow_2_5 : decode cJ2_grow_2 5 = .ok (.iconst 1, 1) := dk_4 (dk_at dksJ2_grow_2_0 5 rfl rfl)
theorem dJ2_grow_2_6 : decode cJ2_grow_2 6 = .ok (.iadd, 1) := dk_96 (dk_at dksJ2_grow_2_0 6 rfl rfl)
theorem dJ2_grow_2_7 : decode cJ2_grow_2 7 = .ok (.invokevirtual 69, 3) := dk_182 0 69 (dk_at dksJ2_grow_2_0 7 rfl rfl)
theorem dJ2_grow_2_10 : decode cJ2_grow_2 10 = .ok (.areturn, 1) := dk_176 (dk_at dksJ2_grow_2_0 10 rfl rfl)
abbrev cJ3_init : ByteArray := prog_64_method_1_code
theorem dJ3_init_0 : decode cJ3_init 0 = .ok (.aload_n 0, 1) := by decide +kernel
theorem dJ3_init_1 : decode cJ3_init 1 = .ok (.invokespecial 1, 3) := by decide +kernel
theorem dJ3_init_4 : decode cJ3_init 4 = .ok (.return_, 1) := by decide +kernel
abbrev cJ4_init : ByteArray := prog_74_method_1_code
def dkwJ4_init_0 : List UInt8 := [42, 183, 0, 1, 42, 3, 181, 0, 7, 177]
abbrev dktJ4_init_0 : List UInt8 := dkwJ4_init_0 ++ []
theorem dksJ4_init_0 : cJ4_init.data.toList.drop 0 = dktJ4_init_0 := by decide +kernel
theorem dJ4_init_0 : decode cJ4_init 0 = .ok (.aload_n 0, 1) := dk_42 (dk_at dksJ4_init_0 0 rfl rfl)
theorem dJ4_init_1 : decode cJ4_init 1 = .ok (.invokespecial 1, 3) := dk_183 0 1 (dk_at dksJ4_init_0 1 rfl rfl)
theorem dJ4_init_4 : decode cJ4_init 4 = .ok (.aload_n 0, 1) := dk_42 (dk_at dksJ4_init_0 4 rfl rfl)
theorem dJ4_init_5 : decode cJ4_init 5 = .ok (.iconst 0, 1) := dk_3 (dk_at dksJ4_init_0 5 rfl rfl)
theorem dJ4_init_6 : decode cJ4_init 6 = .ok (.putfield 7, 3) := dk_181 0 7 (dk_at dksJ4_init_0 6 rfl rfl)
theorem dJ4_init_9 : decode cJ4_init 9 = .ok (.return_, 1) := dk_177 (dk_at dksJ4_init_0 9 rfl rfl)
abbrev cJ4_checkPositionIndex : ByteArray := prog_74_method_30_code
def dkwJ4_checkPositionIndex_0 : List UInt8 := [42, 27, 182, 0, 128, 154, 0, 16, 187, 0, 119, 89, 42, 27, 182, 0, 121, 183, 0, 125, 191, 177]
abbrev dktJ4_checkPositionIndex_0 : List UInt8 := dkwJ4_checkPositionIndex_0 ++ []
theorem dksJ4_checkPositionIndex_0 : cJ4_checkPositionIndex.data.toList.drop 0 = dktJ4_checkPositionIndex_0 := by decide +kernel
theorem dJ4_checkPositionIndex_0 : decode cJ4_checkPositionIndex 0 = .ok (.aload_n 0, 1) := dk_42 (dk_at dksJ4_checkPositionIndex_0 0 rfl rfl)
theorem dJ4_checkPositionIndex_1 : decode cJ4_checkPositionIndex 1 = .ok (.iload_n 1, 1) := dk_27 (dk_at dksJ4_checkPositionIndex_0 1 rfl rfl)
theorem dJ4_checkPositionIndex_2 : decode cJ4_checkPositionIndex 2 = .ok (.invokevirtual 128, 3) := dk_182 0 128 (dk_at dksJ4_checkPositionIndex_0 2 rfl rfl)
theorem dJ4_checkPositionIndex_5 : decode cJ4_checkPositionIndex 5 = .ok (.ifCond .ne 16, 3) := dk_154 0 16 (dk_at dksJ4_checkPositionIndex_0 5 rfl rfl)
theorem dJ4_checkPositionIndex_8 : decode cJ4_checkPositionIndex 8 = .ok (.new 119, 3) := dk_187 0 119 (dk_at dksJ4_checkPositionIndex_0 8 rfl rfl)
theorem dJ4_checkPositionIndex_21 : decode cJ4_checkPositionIndex 21 = .ok (.return_, 1) := dk_177 (dk_at dksJ4_checkPositionIndex_0 21 rfl rfl)
abbrev cJ4_isPositionIndex : ByteArray := prog_74_method_27_code
def dkwJ4_isPositionIndex_0 : List UInt8 := [27, 155, 0, 15, 27, 42, 180, 0, 7, 163, 0, 7, 4, 167, 0, 4, 3, 172]
abbrev dktJ4_isPositionIndex_0 : List UInt8 := dkwJ4_isPositionIndex_0 ++ []
theorem dksJ4_isPositionIndex_0 : cJ4_isPositionIndex.data.toList.drop 0 = dktJ4_isPositionIndex_0 := by decide +kernel
theorem dJ4_isPositionIndex_0 : decode cJ4_isPositionIndex 0 = .ok (.iload_n 1, 1) := dk_27 (dk_at dksJ4_isPositionIndex_0 0 rfl rfl)
theorem dJ4_isPositionIndex_1 : decode cJ4_isPositionIndex 1 = .ok (.ifCond .lt 15, 3) := dk_155 0 15 (dk_at dksJ4_isPositionIndex_0 1 rfl rfl)
theorem dJ4_isPositionIndex_4 : decode cJ4_isPositionIndex 4 = .ok (.iload_n 1, 1) := dk_27 (dk_at dksJ4_isPositionIndex_0 4 rfl rfl)
theorem dJ4_isPositionIndex_5 : decode cJ4_isPositionIndex 5 = .ok (.aload_n 0, 1) := dk_42 (dk_at dksJ4_isPositionIndex_0 5 rfl rfl)
theorem dJ4_isPositionIndex_6 : decode cJ4_isPositionIndex 6 = .ok (.getfield 7, 3) := dk_180 0 7 (dk_at dksJ4_isPositionIndex_0 6 rfl rfl)
theorem dJ4_isPositionIndex_9 : decode cJ4_isPositionIndex 9 = .ok (.if_icmp .gt 7, 3) := dk_163 0 7 (dk_at dksJ4_isPositionIndex_0 9 rfl rfl)
theorem dJ4_isPositionIndex_12 : decode cJ4_isPositionIndex 12 = .ok (.iconst 1, 1) := dk_4 (dk_at dksJ4_isPositionIndex_0 12 rfl rfl)
theorem dJ4_isPositionIndex_13 : decode cJ4_isPositionIndex 13 = .ok (.goto 4, 3) := dk_167 0 4 (dk_at dksJ4_isPositionIndex_0 13 rfl rfl)
theorem dJ4_isPositionIndex_16 : decode cJ4_isPositionIndex 16 = .ok (.iconst 0, 1) := dk_3 (dk_at dksJ4_isPositionIndex_0 16 rfl rfl)
theorem dJ4_isPositionIndex_17 : decode cJ4_isPositionIndex 17 = .ok (.ireturn, 1) := dk_172 (dk_at dksJ4_isPositionIndex_0 17 rfl rfl)
abbrev cJ4_node : ByteArray := prog_74_method_31_code
def dkwJ4_node_2 : List UInt8 := [29, 27, 164, 0, 14, 44, 180, 0, 30, 77, 132, 3, 255, 167, 255, 243, 44, 176]
abbrev dktJ4_node_2 : List UInt8 := dkwJ4_node_2 ++ []
def dkwJ4_node_1 : List UInt8 := [180, 0, 36, 77, 132, 3, 1, 167, 255, 243, 44, 176, 42, 180, 0, 27, 77, 42, 180, 0, 7, 4, 100, 62]
abbrev dktJ4_node_1 : List UInt8 := dkwJ4_node_1 ++ dktJ4_node_2
def dkwJ4_node_0 : List UInt8 := [27, 42, 180, 0, 7, 4, 122, 162, 0, 28, 42, 180, 0, 18, 77, 3, 62, 29, 27, 162, 0, 14, 44]
abbrev dktJ4_node_0 : List UInt8 := dkwJ4_node_0 ++ dktJ4_node_1
theorem dksJ4_node_0 : cJ4_node.data.toList.drop 0 = dktJ4_node_0 := by decide +kernel
theorem dksJ4_node_1 : cJ4_node.data.toList.drop 23 = dktJ4_node_1 := dk_seg dksJ4_node_0 23 rfl rfl
theorem dksJ4_node_2 : cJ4_node.data.toList.drop 47 = dktJ4_node_2 := dk_seg dksJ4_node_1 24 rfl rfl
theorem dJ4_node_0 : decode cJ4_node 0 = .ok (.iload_n 1, 1) := dk_27 (dk_at dksJ4_node_0 0 rfl rfl)
theorem dJ4_node_1 : decode cJ4_node 1 = .ok (.aload_n 0, 1) := dk_42 (dk_at dksJ4_node_0 1 rfl rfl)
theorem dJ4_node_2 : decode cJ4_node 2 = .ok (.getfield 7, 3) := dk_180 0 7 (dk_at dksJ4_node_0 2 rfl rfl)
theorem dJ4_node_5 : decode cJ4_node 5 = .ok (.iconst 1, 1) := dk_4 (dk_at dksJ4_node_0 5 rfl rfl)
theorem dJ4_node_6 : decode cJ4_node 6 = .ok (.ishr, 1) := dk_122 (dk_at dksJ4_node_0 6 rfl rfl)
theorem dJ4_node_7 : decode cJ4_node 7 = .ok (.if_icmp .ge 28, 3) := dk_162 0 28 (dk_at dksJ4_node_0 7 rfl rfl)
theorem dJ4_node_10 : decode cJ4_node 10 = .ok (.aload_n 0, 1) := dk_42 (dk_at dksJ4_node_0 10 rfl rfl)
theorem dJ4_node_11 : decode cJ4_node 11 = .ok (.getfield 18, 3) := dk_180 0 18 (dk_at dksJ4_node_0 11 rfl rfl)
theorem dJ4_node_14 : decode cJ4_node 14 = .ok (.astore_n 2, 1) := dk_77 (dk_at dksJ4_node_0 14 rfl rfl)
theorem dJ4_node_15 : decode cJ4_node 15 = .ok (.iconst 0, 1) := dk_3 (dk_at dksJ4_node_0 15 rfl rfl)
theorem dJ4_node_16 : decode cJ4_node 16 = .ok (.istore_n 3, 1) := dk_62 (dk_at dksJ4_node_0 16 rfl rfl)
theorem dJ4_node_17 : decode cJ4_node 17 = .ok (.iload_n 3, 1) := dk_29 (dk_at dksJ4_node_0 17 rfl rfl)
theorem dJ4_node_18 : decode cJ4_node 18 = .ok (.iload_n 1, 1) := dk_27 (dk_at dksJ4_node_0 18 rfl rfl)
theorem dJ4_node_19 : decode cJ4_node 19 = .ok (.if_icmp .ge 14, 3) := dk_162 0 14 (dk_at dksJ4_node_0 19 rfl rfl)
theorem dJ4_node_22 : decode cJ4_node 22 = .ok (.aload_n 2, 1) := dk_44 (dk_at dksJ4_node_0 22 rfl rfl)
theorem dJ4_node_23 : decode cJ4_node 23 = .ok (.getfield 36, 3) := dk_180 0 36 (dk_at dksJ4_node_1 0 rfl rfl)
theorem dJ4_node_26 : decode cJ4_node 26 = .ok (.astore_n 2, 1) := dk_77 (dk_at dksJ4_node_1 3 rfl rfl)
theorem dJ4_node_27 : decode cJ4_node 27 = .ok (.iinc 3 1, 3) := dk_132 3 1 (dk_at dksJ4_node_1 4 rfl rfl)
theorem dJ4_node_30 : decode cJ4_node 30 = .ok (.goto (-13), 3) := dk_167 255 243 (dk_at dksJ4_node_1 7 rfl rfl)
theorem dJ4_node_33 : decode cJ4_node 33 = .ok (.aload_n 2, 1) := dk_44 (dk_at dksJ4_node_1 10 rfl rfl)
theorem dJ4_node_34 : decode cJ4_node 34 = .ok (.areturn, 1) := dk_176 (dk_at dksJ4_node_1 11 rfl rfl)
theorem dJ4_node_35 : decode cJ4_node 35 = .ok (.aload_n 0, 1) := dk_42 (dk_at dksJ4_node_1 12 rfl rfl)
theorem dJ4_node_36 : decode cJ4_node 36 = .ok (.getfield 27, 3) := dk_180 0 27 (dk_at dksJ4_node_1 13 rfl rfl)
theorem dJ4_node_39 : decode cJ4_node 39 = .ok (.astore_n 2, 1) := dk_77 (dk_at dksJ4_node_1 16 rfl rfl)
theorem dJ4_node_40 : decode cJ4_node 40 = .ok (.aload_n 0, 1) := dk_42 (dk_at dksJ4_node_1 17 rfl rfl)
theorem dJ4_node_41 : decode cJ4_node 41 = .ok (.getfield 7, 3) := dk_180 0 7 (dk_at dksJ4_node_1 18 rfl rfl)
theorem dJ4_node_44 : decode cJ4_node 44 = .ok (.iconst 1, 1) := dk_4 (dk_at dksJ4_node_1 21 rfl rfl)
theorem dJ4_node_45 : decode cJ4_node 45 = .ok (.isub, 1) := dk_100 (dk_at dksJ4_node_1 22 rfl rfl)
theorem dJ4_node_46 : decode cJ4_node 46 = .ok (.istore_n 3, 1) := dk_62 (dk_at dksJ4_node_1 23 rfl rfl)
theorem dJ4_node_47 : decode cJ4_node 47 = .ok (.iload_n 3, 1) := dk_29 (dk_at dksJ4_node_2 0 rfl rfl)
theorem dJ4_node_48 : decode cJ4_node 48 = .ok (.iload_n 1, 1) := dk_27 (dk_at dksJ4_node_2 1 rfl rfl)
theorem dJ4_node_49 : decode cJ4_node 49 = .ok (.if_icmp .le 14, 3) := dk_164 0 14 (dk_at dksJ4_node_2 2 rfl rfl)
theorem dJ4_node_52 : decode cJ4_node 52 = .ok (.aload_n 2, 1) := dk_44 (dk_at dksJ4_node_2 5 rfl rfl)
theorem dJ4_node_53 : decode cJ4_node 53 = .ok (.getfield 30, 3) := dk_180 0 30 (dk_at dksJ4_node_2 6 rfl rfl)
theorem dJ4_node_56 : decode cJ4_node 56 = .ok (.astore_n 2, 1) := dk_77 (dk_at dksJ4_node_2 9 rfl rfl)
theorem dJ4_node_57 : decode cJ4_node 57 = .ok (.iinc 3 (-1), 3) := dk_132 3 255 (dk_at dksJ4_node_2 10 rfl rfl)
theorem dJ4_node_60 : decode cJ4_node 60 = .ok (.goto (-13), 3) := dk_167 255 243 (dk_at dksJ4_node_2 13 rfl rfl)
theorem dJ4_node_63 : decode cJ4_node 63 = .ok (.aload_n 2, 1) := dk_44 (dk_at dksJ4_node_2 16 rfl rfl)
theorem dJ4_node_64 : decode cJ4_node 64 = .ok (.areturn, 1) := dk_176 (dk_at dksJ4_node_2 17 rfl rfl)
abbrev cJ4_size : ByteArray := prog_74_method_16_code
theorem dJ4_size_0 : decode cJ4_size 0 = .ok (.aload_n 0, 1) := by decide +kernel
theorem dJ4_size_1 : decode cJ4_size 1 = .ok (.getfield 7, 3) := by decide +kernel
theorem dJ4_size_4 : decode cJ4_size 4 = .ok (.ireturn, 1) := by decide +kernel
abbrev cJ4_get : ByteArray := prog_74_method_22_code
def dkwJ4_get_0 : List UInt8 := [42, 27, 182, 0, 90, 42, 27, 182, 0, 86, 180, 0, 39, 176]
abbrev dktJ4_get_0 : List UInt8 := dkwJ4_get_0 ++ []
theorem dksJ4_get_0 : cJ4_get.data.toList.drop 0 = dktJ4_get_0 := by decide +kernel
theorem dJ4_get_0 : decode cJ4_get 0 = .ok (.aload_n 0, 1) := dk_42 (dk_at dksJ4_get_0 0 rfl rfl)
theorem dJ4_get_1 : decode cJ4_get 1 = .ok (.iload_n 1, 1) := dk_27 (dk_at dksJ4_get_0 1 rfl rfl)
theorem dJ4_get_2 : decode cJ4_get 2 = .ok (.invokevirtual 90, 3) := dk_182 0 90 (dk_at dksJ4_get_0 2 rfl rfl)
theorem dJ4_get_5 : decode cJ4_get 5 = .ok (.aload_n 0, 1) := dk_42 (dk_at dksJ4_get_0 5 rfl rfl)
theorem dJ4_get_6 : decode cJ4_get 6 = .ok (.iload_n 1, 1) := dk_27 (dk_at dksJ4_get_0 6 rfl rfl)
theorem dJ4_get_7 : decode cJ4_get 7 = .ok (.invokevirtual 86, 3) := dk_182 0 86 (dk_at dksJ4_get_0 7 rfl rfl)
theorem dJ4_get_10 : decode cJ4_get 10 = .ok (.getfield 39, 3) := dk_180 0 39 (dk_at dksJ4_get_0 10 rfl rfl)
theorem dJ4_get_13 : decode cJ4_get 13 = .ok (.areturn, 1) := dk_176 (dk_at dksJ4_get_0 13 rfl rfl)
abbrev cJ4_checkElementIndex : ByteArray := prog_74_method_29_code
def dkwJ4_checkElementIndex_0 : List UInt8 := [42, 27, 182, 0, 115, 154, 0, 16, 187, 0, 119, 89, 42, 27, 182, 0, 121, 183, 0, 125, 191, 177]
abbrev dktJ4_checkElementIndex_0 : List UInt8 := dkwJ4_checkElementIndex_0 ++ []
theorem dksJ4_checkElementIndex_0 : cJ4_checkElementIndex.data.toList.drop 0 = dktJ4_checkElementIndex_0 := by decide +kernel
theorem dJ4_checkElementIndex_0 : decode cJ4_checkElementIndex 0 = .ok (.aload_n 0, 1) := dk_42 (dk_at dksJ4_checkElementIndex_0 0 rfl rfl)
theorem dJ4_checkElementIndex_1 : decode cJ4_checkElementIndex 1 = .ok (.iload_n 1, 1) := dk_27 (dk_at dksJ4_checkElementIndex_0 1 rfl rfl)
theorem dJ4_checkElementIndex_2 : decode cJ4_checkElementIndex 2 = .ok (.invokevirtual 115, 3) := dk_182 0 115 (dk_at dksJ4_checkElementIndex_0 2 rfl rfl)
theorem dJ4_checkElementIndex_5 : decode cJ4_checkElementIndex 5 = .ok (.ifCond .ne 16, 3) := dk_154 0 16 (dk_at dksJ4_checkElementIndex_0 5 rfl rfl)
theorem dJ4_checkElementIndex_8 : decode cJ4_checkElementIndex 8 = .ok (.new 119, 3) := dk_187 0 119 (dk_at dksJ4_checkElementIndex_0 8 rfl rfl)
theorem dJ4_checkElementIndex_21 : decode cJ4_checkElementIndex 21 = .ok (.return_, 1) := dk_177 (dk_at dksJ4_checkElementIndex_0 21 rfl rfl)
abbrev cJ4_isElementIndex : ByteArray := prog_74_method_26_code
def dkwJ4_isElementIndex_0 : List UInt8 := [27, 155, 0, 15, 27, 42, 180, 0, 7, 162, 0, 7, 4, 167, 0, 4, 3, 172]
abbrev dktJ4_isElementIndex_0 : List UInt8 := dkwJ4_isElementIndex_0 ++ []
theorem dksJ4_isElementIndex_0 : cJ4_isElementIndex.data.toList.drop 0 = dktJ4_isElementIndex_0 := by decide +kernel
theorem dJ4_isElementIndex_0 : decode cJ4_isElementIndex 0 = .ok (.iload_n 1, 1) := dk_27 (dk_at dksJ4_isElementIndex_0 0 rfl rfl)
theorem dJ4_isElementIndex_1 : decode cJ4_isElementIndex 1 = .ok (.ifCond .lt 15, 3) := dk_155 0 15 (dk_at dksJ4_isElementIndex_0 1 rfl rfl)
theorem dJ4_isElementIndex_4 : decode cJ4_isElementIndex 4 = .ok (.iload_n 1, 1) := dk_27 (dk_at dksJ4_isElementIndex_0 4 rfl rfl)
theorem dJ4_isElementIndex_5 : decode cJ4_isElementIndex 5 = .ok (.aload_n 0, 1) := dk_42 (dk_at dksJ4_isElementIndex_0 5 rfl rfl)
theorem dJ4_isElementIndex_6 : decode cJ4_isElementIndex 6 = .ok (.getfield 7, 3) := dk_180 0 7 (dk_at dksJ4_isElementIndex_0 6 rfl rfl)
theorem dJ4_isElementIndex_9 : decode cJ4_isElementIndex 9 = .ok (.if_icmp .ge 7, 3) := dk_162 0 7 (dk_at dksJ4_isElementIndex_0 9 rfl rfl)
theorem dJ4_isElementIndex_12 : decode cJ4_isElementIndex 12 = .ok (.iconst 1, 1) := dk_4 (dk_at dksJ4_isElementIndex_0 12 rfl rfl)
theorem dJ4_isElementIndex_13 : decode cJ4_isElementIndex 13 = .ok (.goto 4, 3) := dk_167 0 4 (dk_at dksJ4_isElementIndex_0 13 rfl rfl)
theorem dJ4_isElementIndex_16 : decode cJ4_isElementIndex 16 = .ok (.iconst 0, 1) := dk_3 (dk_at dksJ4_isElementIndex_0 16 rfl rfl)
theorem dJ4_isElementIndex_17 : decode cJ4_isElementIndex 17 = .ok (.ireturn, 1) := dk_172 (dk_at dksJ4_isElementIndex_0 17 rfl rfl)
abbrev cJ4_toArray : ByteArray := prog_74_method_53_code
def dkwJ4_toArray_1 : List UInt8 := [45, 180, 0, 39, 83, 45, 180, 0, 36, 78, 167, 255, 237, 43, 176]
abbrev dktJ4_toArray_1 : List UInt8 := dkwJ4_toArray_1 ++ []
def dkwJ4_toArray_0 : List UInt8 := [42, 180, 0, 7, 189, 0, 68, 76, 3, 61, 42, 180, 0, 18, 78, 45, 198, 0, 21, 43, 28, 132, 2, 1]
abbrev dktJ4_toArray_0 : List UInt8 := dkwJ4_toArray_0 ++ dktJ4_toArray_1
theorem dksJ4_toArray_0 : cJ4_toArray.data.toList.drop 0 = dktJ4_toArray_0 := by decide +kernel
theorem dksJ4_toArray_1 : cJ4_toArray.data.toList.drop 24 = dktJ4_toArray_1 := dk_seg dksJ4_toArray_0 24 rfl rfl
theorem dJ4_toArray_0 : decode cJ4_toArray 0 = .ok (.aload_n 0, 1) := dk_42 (dk_at dksJ4_toArray_0 0 rfl rfl)
theorem dJ4_toArray_1 : decode cJ4_toArray 1 = .ok (.getfield 7, 3) := dk_180 0 7 (dk_at dksJ4_toArray_0 1 rfl rfl)
theorem dJ4_toArray_4 : decode cJ4_toArray 4 = .ok (.anewarray 68, 3) := dk_189 0 68 (dk_at dksJ4_toArray_0 4 rfl rfl)
theorem dJ4_toArray_7 : decode cJ4_toArray 7 = .ok (.astore_n 1, 1) := dk_76 (dk_at dksJ4_toArray_0 7 rfl rfl)
theorem dJ4_toArray_8 : decode cJ4_toArray 8 = .ok (.iconst 0, 1) := dk_3 (dk_at dksJ4_toArray_0 8 rfl rfl)
theorem dJ4_toArray_9 : decode cJ4_toArray 9 = .ok (.istore_n 2, 1) := dk_61 (dk_at dksJ4_toArray_0 9 rfl rfl)
theorem dJ4_toArray_10 : decode cJ4_toArray 10 = .ok (.aload_n 0, 1) := dk_42 (dk_at dksJ4_toArray_0 10 rfl rfl)
theorem dJ4_toArray_11 : decode cJ4_toArray 11 = .ok (.getfield 18, 3) := dk_180 0 18 (dk_at dksJ4_toArray_0 11 rfl rfl)
theorem dJ4_toArray_14 : decode cJ4_toArray 14 = .ok (.astore_n 3, 1) := dk_78 (dk_at dksJ4_toArray_0 14 rfl rfl)
theorem dJ4_toArray_15 : decode cJ4_toArray 15 = .ok (.aload_n 3, 1) := dk_45 (dk_at dksJ4_toArray_0 15 rfl rfl)
theorem dJ4_toArray_16 : decode cJ4_toArray 16 = .ok (.ifnull 21, 3) := dk_198 0 21 (dk_at dksJ4_toArray_0 16 rfl rfl)
theorem dJ4_toArray_19 : decode cJ4_toArray 19 = .ok (.aload_n 1, 1) := dk_43 (dk_at dksJ4_toArray_0 19 rfl rfl)
theorem dJ4_toArray_20 : decode cJ4_toArray 20 = .ok (.iload_n 2, 1) := dk_28 (dk_at dksJ4_toArray_0 20 rfl rfl)
theorem dJ4_toArray_21 : decode cJ4_toArray 21 = .ok (.iinc 2 1, 3) := dk_132 2 1 (dk_at dksJ4_toArray_0 21 rfl rfl)
theorem dJ4_toArray_24 : decode cJ4_toArray 24 = .ok (.aload_n 3, 1) := dk_45 (dk_at dksJ4_toArray_1 0 rfl rfl)
theorem dJ4_toArray_25 : decode cJ4_toArray 25 = .ok (.getfield 39, 3) := dk_180 0 39 (dk_at dksJ4_toArray_1 1 rfl rfl)
theorem dJ4_toArray_28 : decode cJ4_toArray 28 = .ok (.aastore, 1) := dk_83 (dk_at dksJ4_toArray_1 4 rfl rfl)
theorem dJ4_toArray_29 : decode cJ4_toArray 29 = .ok (.aload_n 3, 1) := dk_45 (dk_at dksJ4_toArray_1 5 rfl rfl)
theorem dJ4_toArray_30 : decode cJ4_toArray 30 = .ok (.getfield 36, 3) := dk_180 0 36 (dk_at dksJ4_toArray_1 6 rfl rfl)
theorem dJ4_toArray_33 : decode cJ4_toArray 33 = .ok (.astore_n 3, 1) := dk_78 (dk_at dksJ4_toArray_1 9 rfl rfl)
theorem dJ4_toArray_34 : decode cJ4_toArray 34 = .ok (.goto (-19), 3) := dk_167 255 237 (dk_at dksJ4_toArray_1 10 rfl rfl)
theorem dJ4_toArray_37 : decode cJ4_toArray 37 = .ok (.aload_n 1, 1) := dk_43 (dk_at dksJ4_toArray_1 13 rfl rfl)
theorem dJ4_toArray_38 : decode cJ4_toArray 38 = .ok (.areturn, 1) := dk_176 (dk_at dksJ4_toArray_1 14 rfl rfl)
abbrev cJ4_addAll : ByteArray := prog_74_method_19_code
def dkwJ4_addAll_0 : List UInt8 := [42, 42, 180, 0, 7, 43, 182, 0, 73, 172]
abbrev dktJ4_addAll_0 : List UInt8 := dkwJ4_addAll_0 ++ []
theorem dksJ4_addAll_0 : cJ4_addAll.data.toList.drop 0 = dktJ4_addAll_0 := by decide +kernel
theorem dJ4_addAll_0 : decode cJ4_addAll 0 = .ok (.aload_n 0, 1) := dk_42 (dk_at dksJ4_addAll_0 0 rfl rfl)
theorem dJ4_addAll_1 : decode cJ4_addAll 1 = .ok (.aload_n 0, 1) := dk_42 (dk_at dksJ4_addAll_0 1 rfl rfl)
theorem dJ4_addAll_2 : decode cJ4_addAll 2 = .ok (.getfield 7, 3) := dk_180 0 7 (dk_at dksJ4_addAll_0 2 rfl rfl)
theorem dJ4_addAll_5 : decode cJ4_addAll 5 = .ok (.aload_n 1, 1) := dk_43 (dk_at dksJ4_addAll_0 5 rfl rfl)
theorem dJ4_addAll_6 : decode cJ4_addAll 6 = .ok (.invokevirtual 73, 3) := dk_182 0 73 (dk_at dksJ4_addAll_0 6 rfl rfl)
theorem dJ4_addAll_9 : decode cJ4_addAll 9 = .ok (.ireturn, 1) := dk_172 (dk_at dksJ4_addAll_0 9 rfl rfl)
abbrev cJ4_addAll_2 : ByteArray := prog_74_method_20_code
def dkwJ4_addAll_2_7 : List UInt8 := [96, 181, 0, 7, 42, 89, 180, 0, 33, 4, 96, 181, 0, 33, 4, 172]
abbrev dktJ4_addAll_2_7 : List UInt8 := dkwJ4_addAll_2_7 ++ []
def dkwJ4_addAll_2_6 : List UInt8 := [167, 0, 17, 25, 5, 25, 6, 181, 0, 36, 25, 6, 25, 5, 181, 0, 30, 42, 89, 180, 0, 7, 21, 4]
abbrev dktJ4_addAll_2_6 : List UInt8 := dkwJ4_addAll_2_6 ++ dktJ4_addAll_2_7
def dkwJ4_addAll_2_5 : List UInt8 := [181, 0, 36, 25, 12, 58, 5, 132, 9, 1, 167, 255, 196, 25, 6, 199, 0, 12, 42, 25, 5, 181, 0, 27]
abbrev dktJ4_addAll_2_5 : List UInt8 := dkwJ4_addAll_2_5 ++ dktJ4_addAll_2_6
def dkwJ4_addAll_2_4 : List UInt8 := [183, 0, 24, 58, 12, 25, 5, 199, 0, 12, 42, 25, 12, 181, 0, 18, 167, 0, 10, 25, 5, 25, 12]
abbrev dktJ4_addAll_2_4 : List UInt8 := dkwJ4_addAll_2_4 ++ dktJ4_addAll_2_5
def dkwJ4_addAll_2_3 : List UInt8 := [162, 0, 59, 25, 7, 21, 9, 50, 58, 10, 25, 10, 58, 11, 187, 0, 22, 89, 25, 5, 25, 11, 1]
abbrev dktJ4_addAll_2_3 : List UInt8 := dkwJ4_addAll_2_3 ++ dktJ4_addAll_2_4
def dkwJ4_addAll_2_2 : List UInt8 := [58, 6, 25, 6, 180, 0, 30, 58, 5, 45, 58, 7, 25, 7, 190, 54, 8, 3, 54, 9, 21, 9, 21, 8]
abbrev dktJ4_addAll_2_2 : List UInt8 := dkwJ4_addAll_2_2 ++ dktJ4_addAll_2_3
def dkwJ4_addAll_2_1 : List UInt8 := [42, 180, 0, 7, 160, 0, 15, 1, 58, 6, 42, 180, 0, 27, 58, 5, 167, 0, 17, 42, 27, 182, 0, 86]
abbrev dktJ4_addAll_2_1 : List UInt8 := dkwJ4_addAll_2_1 ++ dktJ4_addAll_2_2
def dkwJ4_addAll_2_0 : List UInt8 := [42, 27, 182, 0, 76, 44, 185, 0, 80, 1, 0, 78, 45, 190, 54, 4, 21, 4, 154, 0, 5, 3, 172, 27]
abbrev dktJ4_addAll_2_0 : List UInt8 := dkwJ4_addAll_2_0 ++ dktJ4_addAll_2_1
theorem dksJ4_addAll_2_0 : cJ4_addAll_2.data.toList.drop 0 = dktJ4_addAll_2_0 := by decide +kernel
theorem dksJ4_addAll_2_1 : cJ4_addAll_2.data.toList.drop 24 = dktJ4_addAll_2_1 := dk_seg dksJ4_addAll_2_0 24 rfl rfl
theorem dksJ4_addAll_2_2 : cJ4_addAll_2.data.toList.drop 48 = dktJ4_addAll_2_2 := dk_seg dksJ4_addAll_2_1 24 rfl rfl
theorem dksJ4_addAll_2_3 : cJ4_addAll_2.data.toList.drop 72 = dktJ4_addAll_2_3 := dk_seg dksJ4_addAll_2_2 24 rfl rfl
theorem dksJ4_addAll_2_4 : cJ4_addAll_2.data.toList.drop 95 = dktJ4_addAll_2_4 := dk_seg dksJ4_addAll_2_3 23 rfl rfl
theorem dksJ4_addAll_2_5 : cJ4_addAll_2.data.toList.drop 118 = dktJ4_addAll_2_5 := dk_seg dksJ4_addAll_2_4 23 rfl rfl
theorem dksJ4_addAll_2_6 : cJ4_addAll_2.data.toList.drop 142 = dktJ4_addAll_2_6 := dk_seg dksJ4_addAll_2_5 24 rfl rfl
theorem dksJ4_addAll_2_7 : cJ4_addAll_2.data.toList.drop 166 = dktJ4_addAll_2_7 := dk_seg dksJ4_addAll_2_6 24 rfl rfl
theorem dJ4_addAll_2_0 : decode cJ4_addAll_2 0 = .ok (.aload_n 0, 1) := dk_42 (dk_at dksJ4_addAll_2_0 0 rfl rfl)
theorem dJ4_addAll_2_1 : decode cJ4_addAll_2 1 = .ok (.iload_n 1, 1) := dk_27 (dk_at dksJ4_addAll_2_0 1 rfl rfl)
theorem dJ4_addAll_2_2 : decode cJ4_addAll_2 2 = .ok (.invokevirtual 76, 3) := dk_182 0 76 (dk_at dksJ4_addAll_2_0 2 rfl rfl)
theorem dJ4_addAll_2_5 : decode cJ4_addAll_2 5 = .ok (.aload_n 2, 1) := dk_44 (dk_at dksJ4_addAll_2_0 5 rfl rfl)
theorem dJ4_addAll_2_6 : decode cJ4_addAll_2 6 = .ok (.invokeinterface 80 1, 5) := by decide +kernel
theorem dJ4_addAll_2_11 : decode cJ4_addAll_2 11 = .ok (.astore_n 3, 1) := dk_78 (dk_at dksJ4_addAll_2_0 11 rfl rfl)
theorem dJ4_addAll_2_12 : decode cJ4_addAll_2 12 = .ok (.aload_n 3, 1) := dk_45 (dk_at dksJ4_addAll_2_0 12 rfl rfl)
theorem dJ4_addAll_2_13 : decode cJ4_addAll_2 13 = .ok (.arraylength, 1) := dk_190 (dk_at dksJ4_addAll_2_0 13 rfl rfl)
theorem dJ4_addAll_2_14 : decode cJ4_addAll_2 14 = .ok (.istore 4, 2) := dk_54 4 (dk_at dksJ4_addAll_2_0 14 rfl rfl)
theorem dJ4_addAll_2_16 : decode cJ4_addAll_2 16 = .ok (.iload 4, 2) := dk_21 4 (dk_at dksJ4_addAll_2_0 16 rfl rfl)
theorem dJ4_addAll_2_18 : decode cJ4_addAll_2 18 = .ok (.ifCond .ne 5, 3) := dk_154 0 5 (dk_at dksJ4_addAll_2_0 18 rfl rfl)
theorem dJ4_addAll_2_21 : decode cJ4_addAll_2 21 = .ok (.iconst 0, 1) := dk_3 (dk_at dksJ4_addAll_2_0 21 rfl rfl)
theorem dJ4_addAll_2_22 : decode cJ4_addAll_2 22 = .ok (.ireturn, 1) := dk_172 (dk_at dksJ4_addAll_2_0 22 rfl rfl)
theorem dJ4_addAll_2_23 : decode cJ4_addAll_2 23 = .ok (.iload_n 1, 1) := dk_27 (dk_at dksJ4_addAll_2_0 23 rfl rfl)
theorem dJ4_addAll_2_24 : decode cJ4_addAll_2 24 = .ok (.aload_n 0, 1) := dk_42 (dk_at dksJ4_addAll_2_1 0 rfl rfl)
theorem dJ4_addAll_2_25 : decode cJ4_addAll_2 25 = .ok (.getfield 7, 3) := dk_180 0 7 (dk_at dksJ4_addAll_2_1 1 rfl rfl)
theorem dJ4_addAll_2_28 : decode cJ4_addAll_2 28 = .ok (.if_icmp .ne 15, 3) := dk_160 0 15 (dk_at dksJ4_addAll_2_1 4 rfl rfl)
theorem dJ4_addAll_2_31 : decode cJ4_addAll_2 31 = .ok (.aconst_null, 1) := dk_1 (dk_at dksJ4_addAll_2_1 7 rfl rfl)
theorem dJ4_addAll_2_32 : decode cJ4_addAll_2 32 = .ok (.astore 6, 2) := dk_58 6 (dk_at dksJ4_addAll_2_1 8 rfl rfl)
theorem dJ4_addAll_2_34 : decode cJ4_addAll_2 34 = .ok (.aload_n 0, 1) := dk_42 (dk_at dksJ4_addAll_2_1 10 rfl rfl)
theorem dJ4_addAll_2_35 : decode cJ4_addAll_2 35 = .ok (.getfield 27, 3) := dk_180 0 27 (dk_at dksJ4_addAll_2_1 11 rfl rfl)
theorem dJ4_addAll_2_38 : decode cJ4_addAll_2 38 = .ok (.astore 5, 2) := dk_58 5 (dk_at dksJ4_addAll_2_1 14 rfl rfl)
theorem dJ4_addAll_2_40 : decode cJ4_addAll_2 40 = .ok (.goto 17, 3) := dk_167 0 17 (dk_at dksJ4_addAll_2_1 16 rfl rfl)
theorem dJ4_addAll_2_43 : decode cJ4_addAll_2 43 = .ok (.aload_n 0, 1) := dk_42 (dk_at dksJ4_addAll_2_1 19 rfl rfl)
theorem dJ4_addAll_2_44 : decode cJ4_addAll_2 44 = .ok (.iload_n 1, 1) := dk_27 (dk_at dksJ4_addAll_2_1 20 rfl rfl)
theorem dJ4_addAll_2_45 : decode cJ4_addAll_2 45 = .ok (.invokevirtual 86, 3) := dk_182 0 86 (dk_at dksJ4_addAll_2_1 21 rfl rfl)
theorem dJ4_addAll_2_48 : decode cJ4_addAll_2 48 = .ok (.astore 6, 2) := dk_58 6 (dk_at dksJ4_addAll_2_2 0 rfl rfl)
theorem dJ4_addAll_2_50 : decode cJ4_addAll_2 50 = .ok (.aload 6, 2) := dk_25 6 (dk_at dksJ4_addAll_2_2 2 rfl rfl)
theorem dJ4_addAll_2_52 : decode cJ4_addAll_2 52 = .ok (.getfield 30, 3) := dk_180 0 30 (dk_at dksJ4_addAll_2_2 4 rfl rfl)
theorem dJ4_addAll_2_55 : decode cJ4_addAll_2 55 = .ok (.astore 5, 2) := dk_58 5 (dk_at dksJ4_addAll_2_2 7 rfl rfl)
theorem dJ4_addAll_2_57 : decode cJ4_addAll_2 57 = .ok (.aload_n 3, 1) := dk_45 (dk_at dksJ4_addAll_2_2 9 rfl rfl)
theorem dJ4_addAll_2_58 : decode cJ4_addAll_2 58 = .ok (.astore 7, 2) := dk_58 7 (dk_at dksJ4_addAll_2_2 10 rfl rfl)
theorem dJ4_addAll_2_60 : decode cJ4_addAll_2 60 = .ok (.aload 7, 2) := dk_25 7 (dk_at dksJ4_addAll_2_2 12 rfl rfl)
theorem dJ4_addAll_2_62 : decode cJ4_addAll_2 62 = .ok (.arraylength, 1) := dk_190 (dk_at dksJ4_addAll_2_2 14 rfl rfl)
theorem dJ4_addAll_2_63 : decode cJ4_addAll_2 63 = .ok (.istore 8, 2) := dk_54 8 (dk_at dksJ4_addAll_2_2 15 rfl rfl)
theorem dJ4_addAll_2_65 : decode cJ4_addAll_2 65 = .ok (.iconst 0, 1) := dk_3 (dk_at dksJ4_addAll_2_2 17 rfl rfl)
theorem dJ4_addAll_2_66 : decode cJ4_addAll_2 66 = .ok (.istore 9, 2) := dk_54 9 (dk_at dksJ4_addAll_2_2 18 rfl rfl)
theorem dJ4_addAll_2_68 : decode cJ4_addAll_2 68 = .ok (.iload 9, 2) := dk_21 9 (dk_at dksJ4_addAll_2_2 20 rfl rfl)
theorem dJ4_addAll_2_70 : decode cJ4_addAll_2 70 = .ok (.iload 8, 2) := dk_21 8 (dk_at dksJ4_addAll_2_2 22 rfl rfl)
theorem dJ4_addAll_2_72 : decode cJ4_addAll_2 72 = .ok (.if_icmp .ge 59, 3) := dk_162 0 59 (dk_at dksJ4_addAll_2_3 0 rfl rfl)
theorem dJ4_addAll_2_75 : decode cJ4_addAll_2 75 = .ok (.aload 7, 2) := dk_25 7 (dk_at dksJ4_addAll_2_3 3 rfl rfl)
theorem dJ4_addAll_2_77 : decode cJ4_addAll_2 77 = .ok (.iload 9, 2) := dk_21 9 (dk_at dksJ4_addAll_2_3 5 rfl rfl)
theorem dJ4_addAll_2_79 : decode cJ4_addAll_2 79 = .ok (.aaload, 1) := dk_50 (dk_at dksJ4_addAll_2_3 7 rfl rfl)
theorem dJ4_addAll_2_80 : decode cJ4_addAll_2 80 = .ok (.astore 10, 2) := dk_58 10 (dk_at dksJ4_addAll_2_3 8 rfl rfl)
theorem dJ4_addAll_2_82 : decode cJ4_addAll_2 82 = .ok (.aload 10, 2) := dk_25 10 (dk_at dksJ4_addAll_2_3 10 rfl rfl)
theorem dJ4_addAll_2_84 : decode cJ4_addAll_2 84 = .ok (.astore 11, 2) := dk_58 11 (dk_at dksJ4_addAll_2_3 12 rfl rfl)
theorem dJ4_addAll_2_86 : decode cJ4_addAll_2 86 = .ok (.new 22, 3) := dk_187 0 22 (dk_at dksJ4_addAll_2_3 14 rfl rfl)
theorem dJ4_addAll_2_89 : decode cJ4_addAll_2 89 = .ok (.dup, 1) := dk_89 (dk_at dksJ4_addAll_2_3 17 rfl rfl)
theorem dJ4_addAll_2_90 : decode cJ4_addAll_2 90 = .ok (.aload 5, 2) := dk_25 5 (dk_at dksJ4_addAll_2_3 18 rfl rfl)
theorem dJ4_addAll_2_92 : decode cJ4_addAll_2 92 = .ok (.aload 11, 2) := dk_25 11 (dk_at dksJ4_addAll_2_3 20 rfl rfl)
theorem dJ4_addAll_2_94 : decode cJ4_addAll_2 94 = .ok (.aconst_null, 1) := dk_1 (dk_at dksJ4_addAll_2_3 22 rfl rfl)
theorem dJ4_addAll_2_95 : decode cJ4_addAll_2 95 = .ok (.invokespecial 24, 3) := dk_183 0 24 (dk_at dksJ4_addAll_2_4 0 rfl rfl)
theorem dJ4_addAll_2_98 : decode cJ4_addAll_2 98 = .ok (.astore 12, 2) := dk_58 12 (dk_at dksJ4_addAll_2_4 3 rfl rfl)
theorem dJ4_addAll_2_100 : decode cJ4_addAll_2 100 = .ok (.aload 5, 2) := dk_25 5 (dk_at dksJ4_addAll_2_4 5 rfl rfl)
theorem dJ4_addAll_2_102 : decode cJ4_addAll_2 102 = .ok (.ifnonnull 12, 3) := dk_199 0 12 (dk_at dksJ4_addAll_2_4 7 rfl rfl)
theorem dJ4_addAll_2_105 : decode cJ4_addAll_2 105 = .ok (.aload_n 0, 1) := dk_42 (dk_at dksJ4_addAll_2_4 10 rfl rfl)
theorem dJ4_addAll_2_106 : decode cJ4_addAll_2 106 = .ok (.aload 12, 2) := dk_25 12 (dk_at dksJ4_addAll_2_4 11 rfl rfl)
theorem dJ4_addAll_2_108 : decode cJ4_addAll_2 108 = .ok (.putfield 18, 3) := dk_181 0 18 (dk_at dksJ4_addAll_2_4 13 rfl rfl)
theorem dJ4_addAll_2_111 : decode cJ4_addAll_2 111 = .ok (.goto 10, 3) := dk_167 0 10 (dk_at dksJ4_addAll_2_4 16 rfl rfl)
theorem dJ4_addAll_2_114 : decode cJ4_addAll_2 114 = .ok (.aload 5, 2) := dk_25 5 (dk_at dksJ4_addAll_2_4 19 rfl rfl)
theorem dJ4_addAll_2_116 : decode cJ4_addAll_2 116 = .ok (.aload 12, 2) := dk_25 12 (dk_at dksJ4_addAll_2_4 21 rfl rfl)
theorem dJ4_addAll_2_118 : decode cJ4_addAll_2 118 = .ok (.putfield 36, 3) := dk_181 0 36 (dk_at dksJ4_addAll_2_5 0 rfl rfl)
theorem dJ4_addAll_2_121 : decode cJ4_addAll_2 121 = .ok (.aload 12, 2) := dk_25 12 (dk_at dksJ4_addAll_2_5 3 rfl rfl)
theorem dJ4_addAll_2_123 : decode cJ4_addAll_2 123 = .ok (.astore 5, 2) := dk_58 5 (dk_at dksJ4_addAll_2_5 5 rfl rfl)
theorem dJ4_addAll_2_125 : decode cJ4_addAll_2 125 = .ok (.iinc 9 1, 3) := dk_132 9 1 (dk_at dksJ4_addAll_2_5 7 rfl rfl)
theorem dJ4_addAll_2_128 : decode cJ4_addAll_2 128 = .ok (.goto (-60), 3) := dk_167 255 196 (dk_at dksJ4_addAll_2_5 10 rfl rfl)
theorem dJ4_addAll_2_131 : decode cJ4_addAll_2 131 = .ok (.aload 6, 2) := dk_25 6 (dk_at dksJ4_addAll_2_5 13 rfl rfl)
theorem dJ4_addAll_2_133 : decode cJ4_addAll_2 133 = .ok (.ifnonnull 12, 3) := dk_199 0 12 (dk_at dksJ4_addAll_2_5 15 rfl rfl)
theorem dJ4_addAll_2_136 : decode cJ4_addAll_2 136 = .ok (.aload_n 0, 1) := dk_42 (dk_at dksJ4_addAll_2_5 18 rfl rfl)
theorem dJ4_addAll_2_137 : decode cJ4_addAll_2 137 = .ok (.aload 5, 2) := dk_25 5 (dk_at dksJ4_addAll_2_5 19 rfl rfl)
theorem dJ4_addAll_2_139 : decode cJ4_addAll_2 139 = .ok (.putfield 27, 3) := dk_181 0 27 (dk_at dksJ4_addAll_2_5 21 rfl rfl)
theorem dJ4_addAll_2_142 : decode cJ4_addAll_2 142 = .ok (.goto 17, 3) := dk_167 0 17 (dk_at dksJ4_addAll_2_6 0 rfl rfl)
theorem dJ4_addAll_2_145 : decode cJ4_addAll_2 145 = .ok (.aload 5, 2) := dk_25 5 (dk_at dksJ4_addAll_2_6 3 rfl rfl)
theorem dJ4_addAll_2_147 : decode cJ4_addAll_2 147 = .ok (.aload 6, 2) := dk_25 6 (dk_at dksJ4_addAll_2_6 5 rfl rfl)
theorem dJ4_addAll_2_149 : decode cJ4_addAll_2 149 = .ok (.putfield 36, 3) := dk_181 0 36 (dk_at dksJ4_addAll_2_6 7 rfl rfl)
theorem dJ4_addAll_2_152 : decode cJ4_addAll_2 152 = .ok (.aload 6, 2) := dk_25 6 (dk_at dksJ4_addAll_2_6 10 rfl rfl)
theorem dJ4_addAll_2_154 : decode cJ4_addAll_2 154 = .ok (.aload 5, 2) := dk_25 5 (dk_at dksJ4_addAll_2_6 12 rfl rfl)
theorem dJ4_addAll_2_156 : decode cJ4_addAll_2 156 = .ok (.putfield 30, 3) := dk_181 0 30 (dk_at dksJ4_addAll_2_6 14 rfl rfl)
theorem dJ4_addAll_2_159 : decode cJ4_addAll_2 159 = .ok (.aload_n 0, 1) := dk_42 (dk_at dksJ4_addAll_2_6 17 rfl rfl)
theorem dJ4_addAll_2_160 : decode cJ4_addAll_2 160 = .ok (.dup, 1) := dk_89 (dk_at dksJ4_addAll_2_6 18 rfl rfl)
theorem dJ4_addAll_2_161 : decode cJ4_addAll_2 161 = .ok (.getfield 7, 3) := dk_180 0 7 (dk_at dksJ4_addAll_2_6 19 rfl rfl)
theorem dJ4_addAll_2_164 : decode cJ4_addAll_2 164 = .ok (.iload 4, 2) := dk_21 4 (dk_at dksJ4_addAll_2_6 22 rfl rfl)
theorem dJ4_addAll_2_166 : decode cJ4_addAll_2 166 = .ok (.iadd, 1) := dk_96 (dk_at dksJ4_addAll_2_7 0 rfl rfl)
theorem dJ4_addAll_2_167 : decode cJ4_addAll_2 167 = .ok (.putfield 7, 3) := dk_181 0 7 (dk_at dksJ4_addAll_2_7 1 rfl rfl)
theorem dJ4_addAll_2_170 : decode cJ4_addAll_2 170 = .ok (.aload_n 0, 1) := dk_42 (dk_at dksJ4_addAll_2_7 4 rfl rfl)
theorem dJ4_addAll_2_171 : decode cJ4_addAll_2 171 = .ok (.dup, 1) := dk_89 (dk_at dksJ4_addAll_2_7 5 rfl rfl)
theorem dJ4_addAll_2_172 : decode cJ4_addAll_2 172 = .ok (.getfield 33, 3) := dk_180 0 33 (dk_at dksJ4_addAll_2_7 6 rfl rfl)
theorem dJ4_addAll_2_175 : decode cJ4_addAll_2 175 = .ok (.iconst 1, 1) := dk_4 (dk_at dksJ4_addAll_2_7 9 rfl rfl)
theorem dJ4_addAll_2_176 : decode cJ4_addAll_2 176 = .ok (.iadd, 1) := dk_96 (dk_at dksJ4_addAll_2_7 10 rfl rfl)
theorem dJ4_addAll_2_177 : decode cJ4_addAll_2 177 = .ok (.putfield 33, 3) := dk_181 0 33 (dk_at dksJ4_addAll_2_7 11 rfl rfl)
theorem dJ4_addAll_2_180 : decode cJ4_addAll_2 180 = .ok (.iconst 1, 1) := dk_4 (dk_at dksJ4_addAll_2_7 14 rfl rfl)
theorem dJ4_addAll_2_181 : decode cJ4_addAll_2 181 = .ok (.ireturn, 1) := dk_172 (dk_at dksJ4_addAll_2_7 15 rfl rfl)
abbrev cJ4_linkLast : ByteArray := prog_74_method_4_code
def dkwJ4_linkLast_2 : List UInt8 := [181, 0, 7, 42, 89, 180, 0, 33, 4, 96, 181, 0, 33, 177]
abbrev dktJ4_linkLast_2 : List UInt8 := dkwJ4_linkLast_2 ++ []
def dkwJ4_linkLast_1 : List UInt8 := [199, 0, 11, 42, 45, 181, 0, 18, 167, 0, 8, 44, 45, 181, 0, 36, 42, 89, 180, 0, 7, 4, 96]
abbrev dktJ4_linkLast_1 : List UInt8 := dkwJ4_linkLast_1 ++ dktJ4_linkLast_2
def dkwJ4_linkLast_0 : List UInt8 := [42, 180, 0, 27, 77, 187, 0, 22, 89, 44, 43, 1, 183, 0, 24, 78, 42, 45, 181, 0, 27, 44]
abbrev dktJ4_linkLast_0 : List UInt8 := dkwJ4_linkLast_0 ++ dktJ4_linkLast_1
theorem dksJ4_linkLast_0 : cJ4_linkLast.data.toList.drop 0 = dktJ4_linkLast_0 := by decide +kernel
theorem dksJ4_linkLast_1 : cJ4_linkLast.data.toList.drop 22 = dktJ4_linkLast_1 := dk_seg dksJ4_linkLast_0 22 rfl rfl
theorem dksJ4_linkLast_2 : cJ4_linkLast.data.toList.drop 45 = dktJ4_linkLast_2 := dk_seg dksJ4_linkLast_1 23 rfl rfl
theorem dJ4_linkLast_0 : decode cJ4_linkLast 0 = .ok (.aload_n 0, 1) := dk_42 (dk_at dksJ4_linkLast_0 0 rfl rfl)
theorem dJ4_linkLast_1 : decode cJ4_linkLast 1 = .ok (.getfield 27, 3) := dk_180 0 27 (dk_at dksJ4_linkLast_0 1 rfl rfl)
theorem dJ4_linkLast_4 : decode cJ4_linkLast 4 = .ok (.astore_n 2, 1) := dk_77 (dk_at dksJ4_linkLast_0 4 rfl rfl)
theorem dJ4_linkLast_5 : decode cJ4_linkLast 5 = .ok (.new 22, 3) := dk_187 0 22 (dk_at dksJ4_linkLast_0 5 rfl rfl)
theorem dJ4_linkLast_8 : decode cJ4_linkLast 8 = .ok (.dup, 1) := dk_89 (dk_at dksJ4_linkLast_0 8 rfl rfl)
theorem dJ4_linkLast_9 : decode cJ4_linkLast 9 = .ok (.aload_n 2, 1) := dk_44 (dk_at dksJ4_linkLast_0 9 rfl rfl)
theorem dJ4_linkLast_10 : decode cJ4_linkLast 10 = .ok (.aload_n 1, 1) := dk_43 (dk_at dksJ4_linkLast_0 10 rfl rfl)
theorem dJ4_linkLast_11 : decode cJ4_linkLast 11 = .ok (.aconst_null, 1) := dk_1 (dk_at dksJ4_linkLast_0 11 rfl rfl)
theorem dJ4_linkLast_12 : decode cJ4_linkLast 12 = .ok (.invokespecial 24, 3) := dk_183 0 24 (dk_at dksJ4_linkLast_0 12 rfl rfl)
theorem dJ4_linkLast_15 : decode cJ4_linkLast 15 = .ok (.astore_n 3, 1) := dk_78 (dk_at dksJ4_linkLast_0 15 rfl rfl)
theorem dJ4_linkLast_16 : decode cJ4_linkLast 16 = .ok (.aload_n 0, 1) := dk_42 (dk_at dksJ4_linkLast_0 16 rfl rfl)
theorem dJ4_linkLast_17 : decode cJ4_linkLast 17 = .ok (.aload_n 3, 1) := dk_45 (dk_at dksJ4_linkLast_0 17 rfl rfl)
theorem dJ4_linkLast_18 : decode cJ4_linkLast 18 = .ok (.putfield 27, 3) := dk_181 0 27 (dk_at dksJ4_linkLast_0 18 rfl rfl)
theorem dJ4_linkLast_21 : decode cJ4_linkLast 21 = .ok (.aload_n 2, 1) := dk_44 (dk_at dksJ4_linkLast_0 21 rfl rfl)
theorem dJ4_linkLast_22 : decode cJ4_linkLast 22 = .ok (.ifnonnull 11, 3) := dk_199 0 11 (dk_at dksJ4_linkLast_1 0 rfl rfl)
theorem dJ4_linkLast_25 : decode cJ4_linkLast 25 = .ok (.aload_n 0, 1) := dk_42 (dk_at dksJ4_linkLast_1 3 rfl rfl)
theorem dJ4_linkLast_26 : decode cJ4_linkLast 26 = .ok (.aload_n 3, 1) := dk_45 (dk_at dksJ4_linkLast_1 4 rfl rfl)
theorem dJ4_linkLast_27 : decode cJ4_linkLast 27 = .ok (.putfield 18, 3) := dk_181 0 18 (dk_at dksJ4_linkLast_1 5 rfl rfl)
theorem dJ4_linkLast_30 : decode cJ4_linkLast 30 = .ok (.goto 8, 3) := dk_167 0 8 (dk_at dksJ4_linkLast_1 8 rfl rfl)
theorem dJ4_linkLast_33 : decode cJ4_linkLast 33 = .ok (.aload_n 2, 1) := dk_44 (dk_at dksJ4_linkLast_1 11 rfl rfl)
theorem dJ4_linkLast_34 : decode cJ4_linkLast 34 = .ok (.aload_n 3, 1) := dk_45 (dk_at dksJ4_linkLast_1 12 rfl rfl)
theorem dJ4_linkLast_35 : decode cJ4_linkLast 35 = .ok (.putfield 36, 3) := dk_181 0 36 (dk_at dksJ4_linkLast_1 13 rfl rfl)
theorem dJ4_linkLast_38 : decode cJ4_linkLast 38 = .ok (.aload_n 0, 1) := dk_42 (dk_at dksJ4_linkLast_1 16 rfl rfl)
theorem dJ4_linkLast_39 : decode cJ4_linkLast 39 = .ok (.dup, 1) := dk_89 (dk_at dksJ4_linkLast_1 17 rfl rfl)
theorem dJ4_linkLast_40 : decode cJ4_linkLast 40 = .ok (.getfield 7, 3) := dk_180 0 7 (dk_at dksJ4_linkLast_1 18 rfl rfl)
theorem dJ4_linkLast_43 : decode cJ4_linkLast 43 = .ok (.iconst 1, 1) := dk_4 (dk_at dksJ4_linkLast_1 21 rfl rfl)
theorem dJ4_linkLast_44 : decode cJ4_linkLast 44 = .ok (.iadd, 1) := dk_96 (dk_at dksJ4_linkLast_1 22 rfl rfl)
theorem dJ4_linkLast_45 : decode cJ4_linkLast 45 = .ok (.putfield 7, 3) := dk_181 0 7 (dk_at dksJ4_linkLast_2 0 rfl rfl)
theorem dJ4_linkLast_48 : decode cJ4_linkLast 48 = .ok (.aload_n 0, 1) := dk_42 (dk_at dksJ4_linkLast_2 3 rfl rfl)
theorem dJ4_linkLast_49 : decode cJ4_linkLast 49 = .ok (.dup, 1) := dk_89 (dk_at dksJ4_linkLast_2 4 rfl rfl)
theorem dJ4_linkLast_50 : decode cJ4_linkLast 50 = .ok (.getfield 33, 3) := dk_180 0 33 (dk_at dksJ4_linkLast_2 5 rfl rfl)
theorem dJ4_linkLast_53 : decode cJ4_linkLast 53 = .ok (.iconst 1, 1) := dk_4 (dk_at dksJ4_linkLast_2 8 rfl rfl)
theorem dJ4_linkLast_54 : decode cJ4_linkLast 54 = .ok (.iadd, 1) := dk_96 (dk_at dksJ4_linkLast_2 9 rfl rfl)
theorem dJ4_linkLast_55 : decode cJ4_linkLast 55 = .ok (.putfield 33, 3) := dk_181 0 33 (dk_at dksJ4_linkLast_2 10 rfl rfl)
theorem dJ4_linkLast_58 : decode cJ4_linkLast 58 = .ok (.return_, 1) := dk_177 (dk_at dksJ4_linkLast_2 13 rfl rfl)
abbrev cJ4_removeFirst : ByteArray := prog_74_method_11_code
def dkwJ4_removeFirst_0 : List UInt8 := [42, 180, 0, 18, 76, 43, 199, 0, 11, 187, 0, 43, 89, 183, 0, 45, 191, 42, 43, 182, 0, 46, 176]
abbrev dktJ4_removeFirst_0 : List UInt8 := dkwJ4_removeFirst_0 ++ []
theorem dksJ4_removeFirst_0 : cJ4_removeFirst.data.toList.drop 0 = dktJ4_removeFirst_0 := by decide +kernel
theorem dJ4_removeFirst_0 : decode cJ4_removeFirst 0 = .ok (.aload_n 0, 1) := dk_42 (dk_at dksJ4_removeFirst_0 0 rfl rfl)
theorem dJ4_removeFirst_1 : decode cJ4_removeFirst 1 = .ok (.getfield 18, 3) := dk_180 0 18 (dk_at dksJ4_removeFirst_0 1 rfl rfl)
theorem dJ4_removeFirst_4 : decode cJ4_removeFirst 4 = .ok (.astore_n 1, 1) := dk_76 (dk_at dksJ4_removeFirst_0 4 rfl rfl)
theorem dJ4_removeFirst_5 : decode cJ4_removeFirst 5 = .ok (.aload_n 1, 1) := dk_43 (dk_at dksJ4_removeFirst_0 5 rfl rfl)
theorem dJ4_removeFirst_6 : decode cJ4_removeFirst 6 = .ok (.ifnonnull 11, 3) := dk_199 0 11 (dk_at dksJ4_removeFirst_0 6 rfl rfl)
theorem dJ4_removeFirst_9 : decode cJ4_removeFirst 9 = .ok (.new 43, 3) := dk_187 0 43 (dk_at dksJ4_removeFirst_0 9 rfl rfl)
theorem dJ4_removeFirst_17 : decode cJ4_removeFirst 17 = .ok (.aload_n 0, 1) := dk_42 (dk_at dksJ4_removeFirst_0 17 rfl rfl)
theorem dJ4_removeFirst_18 : decode cJ4_removeFirst 18 = .ok (.aload_n 1, 1) := dk_43 (dk_at dksJ4_removeFirst_0 18 rfl rfl)
theorem dJ4_removeFirst_19 : decode cJ4_removeFirst 19 = .ok (.invokevirtual 46, 3) := dk_182 0 46 (dk_at dksJ4_removeFirst_0 19 rfl rfl)
theorem dJ4_removeFirst_22 : decode cJ4_removeFirst 22 = .ok (.areturn, 1) := dk_176 (dk_at dksJ4_removeFirst_0 22 rfl rfl)
abbrev cJ4_unlinkFirst : ByteArray := prog_74_method_6_code
def dkwJ4_unlinkFirst_2 : List UInt8 := [180, 0, 7, 4, 100, 181, 0, 7, 42, 89, 180, 0, 33, 4, 96, 181, 0, 33, 44, 176]
abbrev dktJ4_unlinkFirst_2 : List UInt8 := dkwJ4_unlinkFirst_2 ++ []
def dkwJ4_unlinkFirst_1 : List UInt8 := [181, 0, 18, 45, 199, 0, 11, 42, 1, 181, 0, 27, 167, 0, 8, 45, 1, 181, 0, 30, 42, 89]
abbrev dktJ4_unlinkFirst_1 : List UInt8 := dkwJ4_unlinkFirst_1 ++ dktJ4_unlinkFirst_2
def dkwJ4_unlinkFirst_0 : List UInt8 := [43, 180, 0, 39, 77, 43, 180, 0, 36, 78, 43, 1, 181, 0, 39, 43, 1, 181, 0, 36, 42, 45]
abbrev dktJ4_unlinkFirst_0 : List UInt8 := dkwJ4_unlinkFirst_0 ++ dktJ4_unlinkFirst_1
theorem dksJ4_unlinkFirst_0 : cJ4_unlinkFirst.data.toList.drop 0 = dktJ4_unlinkFirst_0 := by decide +kernel
theorem dksJ4_unlinkFirst_1 : cJ4_unlinkFirst.data.toList.drop 22 = dktJ4_unlinkFirst_1 := dk_seg dksJ4_unlinkFirst_0 22 rfl rfl
theorem dksJ4_unlinkFirst_2 : cJ4_unlinkFirst.data.toList.drop 44 = dktJ4_unlinkFirst_2 := dk_seg dksJ4_unlinkFirst_1 22 rfl rfl
theorem dJ4_unlinkFirst_0 : decode cJ4_unlinkFirst 0 = .ok (.aload_n 1, 1) := dk_43 (dk_at dksJ4_unlinkFirst_0 0 rfl rfl)
theorem dJ4_unlinkFirst_1 : decode cJ4_unlinkFirst 1 = .ok (.getfield 39, 3) := dk_180 0 39 (dk_at dksJ4_unlinkFirst_0 1 rfl rfl)
theorem dJ4_unlinkFirst_4 : decode cJ4_unlinkFirst 4 = .ok (.astore_n 2, 1) := dk_77 (dk_at dksJ4_unlinkFirst_0 4 rfl rfl)
theorem dJ4_unlinkFirst_5 : decode cJ4_unlinkFirst 5 = .ok (.aload_n 1, 1) := dk_43 (dk_at dksJ4_unlinkFirst_0 5 rfl rfl)
theorem dJ4_unlinkFirst_6 : decode cJ4_unlinkFirst 6 = .ok (.getfield 36, 3) := dk_180 0 36 (dk_at dksJ4_unlinkFirst_0 6 rfl rfl)
theorem dJ4_unlinkFirst_9 : decode cJ4_unlinkFirst 9 = .ok (.astore_n 3, 1) := dk_78 (dk_at dksJ4_unlinkFirst_0 9 rfl rfl)
theorem dJ4_unlinkFirst_10 : decode cJ4_unlinkFirst 10 = .ok (.aload_n 1, 1) := dk_43 (dk_at dksJ4_unlinkFirst_0 10 rfl rfl)
theorem dJ4_unlinkFirst_11 : decode cJ4_unlinkFirst 11 = .ok (.aconst_null, 1) := dk_1 (dk_at dksJ4_unlinkFirst_0 11 rfl rfl)
theorem dJ4_unlinkFirst_12 : decode cJ4_unlinkFirst 12 = .ok (.putfield 39, 3) := dk_181 0 39 (dk_at dksJ4_unlinkFirst_0 12 rfl rfl)
theorem dJ4_unlinkFirst_15 : decode cJ4_unlinkFirst 15 = .ok (.aload_n 1, 1) := dk_43 (dk_at dksJ4_unlinkFirst_0 15 rfl rfl)
theorem dJ4_unlinkFirst_16 : decode cJ4_unlinkFirst 16 = .ok (.aconst_null, 1) := dk_1 (dk_at dksJ4_unlinkFirst_0 16 rfl rfl)
theorem dJ4_unlinkFirst_17 : decode cJ4_unlinkFirst 17 = .ok (.putfield 36, 3) := dk_181 0 36 (dk_at dksJ4_unlinkFirst_0 17 rfl rfl)
theorem dJ4_unlinkFirst_20 : decode cJ4_unlinkFirst 20 = .ok (.aload_n 0, 1) := dk_42 (dk_at dksJ4_unlinkFirst_0 20 rfl rfl)
theorem dJ4_unlinkFirst_21 : decode cJ4_unlinkFirst 21 = .ok (.aload_n 3, 1) := dk_45 (dk_at dksJ4_unlinkFirst_0 21 rfl rfl)
theorem dJ4_unlinkFirst_22 : decode cJ4_unlinkFirst 22 = .ok (.putfield 18, 3) := dk_181 0 18 (dk_at dksJ4_unlinkFirst_1 0 rfl rfl)
theorem dJ4_unlinkFirst_25 : decode cJ4_unlinkFirst 25 = .ok (.aload_n 3, 1) := dk_45 (dk_at dksJ4_unlinkFirst_1 3 rfl rfl)
theorem dJ4_unlinkFirst_26 : decode cJ4_unlinkFirst 26 = .ok (.ifnonnull 11, 3) := dk_199 0 11 (dk_at dksJ4_unlinkFirst_1 4 rfl rfl)
theorem dJ4_unlinkFirst_29 : decode cJ4_unlinkFirst 29 = .ok (.aload_n 0, 1) := dk_42 (dk_at dksJ4_unlinkFirst_1 7 rfl rfl)
theorem dJ4_unlinkFirst_30 : decode cJ4_unlinkFirst 30 = .ok (.aconst_null, 1) := dk_1 (dk_at dksJ4_unlinkFirst_1 8 rfl rfl)
theorem dJ4_unlinkFirst_31 : decode cJ4_unlinkFirst 31 = .ok (.putfield 27, 3) := dk_181 0 27 (dk_at dksJ4_unlinkFirst_1 9 rfl rfl)
theorem dJ4_unlinkFirst_34 : decode cJ4_unlinkFirst 34 = .ok (.goto 8, 3) := dk_167 0 8 (dk_at dksJ4_unlinkFirst_1 12 rfl rfl)
theorem dJ4_unlinkFirst_37 : decode cJ4_unlinkFirst 37 = .ok (.aload_n 3, 1) := dk_45 (dk_at dksJ4_unlinkFirst_1 15 rfl rfl)
theorem dJ4_unlinkFirst_38 : decode cJ4_unlinkFirst 38 = .ok (.aconst_null, 1) := dk_1 (dk_at dksJ4_unlinkFirst_1 16 rfl rfl)
theorem dJ4_unlinkFirst_39 : decode cJ4_unlinkFirst 39 = .ok (.putfield 30, 3) := dk_181 0 30 (dk_at dksJ4_unlinkFirst_1 17 rfl rfl)
theorem dJ4_unlinkFirst_42 : decode cJ4_unlinkFirst 42 = .ok (.aload_n 0, 1) := dk_42 (dk_at dksJ4_unlinkFirst_1 20 rfl rfl)
theorem dJ4_unlinkFirst_43 : decode cJ4_unlinkFirst 43 = .ok (.dup, 1) := dk_89 (dk_at dksJ4_unlinkFirst_1 21 rfl rfl)
theorem dJ4_unlinkFirst_44 : decode cJ4_unlinkFirst 44 = .ok (.getfield 7, 3) := dk_180 0 7 (dk_at dksJ4_unlinkFirst_2 0 rfl rfl)
theorem dJ4_unlinkFirst_47 : decode cJ4_unlinkFirst 47 = .ok (.iconst 1, 1) := dk_4 (dk_at dksJ4_unlinkFirst_2 3 rfl rfl)
theorem dJ4_unlinkFirst_48 : decode cJ4_unlinkFirst 48 = .ok (.isub, 1) := dk_100 (dk_at dksJ4_unlinkFirst_2 4 rfl rfl)
theorem dJ4_unlinkFirst_49 : decode cJ4_unlinkFirst 49 = .ok (.putfield 7, 3) := dk_181 0 7 (dk_at dksJ4_unlinkFirst_2 5 rfl rfl)
theorem dJ4_unlinkFirst_52 : decode cJ4_unlinkFirst 52 = .ok (.aload_n 0, 1) := dk_42 (dk_at dksJ4_unlinkFirst_2 8 rfl rfl)
theorem dJ4_unlinkFirst_53 : decode cJ4_unlinkFirst 53 = .ok (.dup, 1) := dk_89 (dk_at dksJ4_unlinkFirst_2 9 rfl rfl)
theorem dJ4_unlinkFirst_54 : decode cJ4_unlinkFirst 54 = .ok (.getfield 33, 3) := dk_180 0 33 (dk_at dksJ4_unlinkFirst_2 10 rfl rfl)
theorem dJ4_unlinkFirst_57 : decode cJ4_unlinkFirst 57 = .ok (.iconst 1, 1) := dk_4 (dk_at dksJ4_unlinkFirst_2 13 rfl rfl)
theorem dJ4_unlinkFirst_58 : decode cJ4_unlinkFirst 58 = .ok (.iadd, 1) := dk_96 (dk_at dksJ4_unlinkFirst_2 14 rfl rfl)
theorem dJ4_unlinkFirst_59 : decode cJ4_unlinkFirst 59 = .ok (.putfield 33, 3) := dk_181 0 33 (dk_at dksJ4_unlinkFirst_2 15 rfl rfl)
theorem dJ4_unlinkFirst_62 : decode cJ4_unlinkFirst 62 = .ok (.aload_n 2, 1) := dk_44 (dk_at dksJ4_unlinkFirst_2 18 rfl rfl)
theorem dJ4_unlinkFirst_63 : decode cJ4_unlinkFirst 63 = .ok (.areturn, 1) := dk_176 (dk_at dksJ4_unlinkFirst_2 19 rfl rfl)
abbrev cJ4_addLast : ByteArray := prog_74_method_14_code
def dkwJ4_addLast_0 : List UInt8 := [42, 43, 182, 0, 57, 177]
abbrev dktJ4_addLast_0 : List UInt8 := dkwJ4_addLast_0 ++ []
theorem dksJ4_addLast_0 : cJ4_addLast.data.toList.drop 0 = dktJ4_addLast_0 := by decide +kernel
theorem dJ4_addLast_0 : decode cJ4_addLast 0 = .ok (.aload_n 0, 1) := dk_42 (dk_at dksJ4_addLast_0 0 rfl rfl)
theorem dJ4_addLast_1 : decode cJ4_addLast 1 = .ok (.aload_n 1, 1) := dk_43 (dk_at dksJ4_addLast_0 1 rfl rfl)
theorem dJ4_addLast_2 : decode cJ4_addLast 2 = .ok (.invokevirtual 57, 3) := dk_182 0 57 (dk_at dksJ4_addLast_0 2 rfl rfl)
theorem dJ4_addLast_5 : decode cJ4_addLast 5 = .ok (.return_, 1) := dk_177 (dk_at dksJ4_addLast_0 5 rfl rfl)
abbrev cJ13_init : ByteArray := prog_67_method_1_code
def dkwJ13_init_1 : List UInt8 := [181, 0, 22, 177]
abbrev dktJ13_init_1 : List UInt8 := dkwJ13_init_1 ++ []
def dkwJ13_init_0 : List UInt8 := [42, 43, 181, 0, 1, 42, 183, 0, 7, 42, 2, 181, 0, 13, 42, 42, 180, 0, 1, 180, 0, 17]
abbrev dktJ13_init_0 : List UInt8 := dkwJ13_init_0 ++ dktJ13_init_1
theorem dksJ13_init_0 : cJ13_init.data.toList.drop 0 = dktJ13_init_0 := by decide +kernel
theorem dksJ13_init_1 : cJ13_init.data.toList.drop 22 = dktJ13_init_1 := dk_seg dksJ13_init_0 22 rfl rfl
theorem dJ13_init_0 : decode cJ13_init 0 = .ok (.aload_n 0, 1) := dk_42 (dk_at dksJ13_init_0 0 rfl rfl)
theorem dJ13_init_1 : decode cJ13_init 1 = .ok (.aload_n 1, 1) := dk_43 (dk_at dksJ13_init_0 1 rfl rfl)
theorem dJ13_init_2 : decode cJ13_init 2 = .ok (.putfield 1, 3) := dk_181 0 1 (dk_at dksJ13_init_0 2 rfl rfl)
theorem dJ13_init_5 : decode cJ13_init 5 = .ok (.aload_n 0, 1) := dk_42 (dk_at dksJ13_init_0 5 rfl rfl)
theorem dJ13_init_6 : decode cJ13_init 6 = .ok (.invokespecial 7, 3) := dk_183 0 7 (dk_at dksJ13_init_0 6 rfl rfl)
theorem dJ13_init_9 : decode cJ13_init 9 = .ok (.aload_n 0, 1) := dk_42 (dk_at dksJ13_init_0 9 rfl rfl)
theorem dJ13_init_10 : decode cJ13_init 10 = .ok (.iconst (-1), 1) := dk_2 (dk_at dksJ13_init_0 10 rfl rfl)
theorem dJ13_init_11 : decode cJ13_init 11 = .ok (.putfield 13, 3) := dk_181 0 13 (dk_at dksJ13_init_0 11 rfl rfl)
theorem dJ13_init_14 : decode cJ13_init 14 = .ok (.aload_n 0, 1) := dk_42 (dk_at dksJ13_init_0 14 rfl rfl)
theorem dJ13_init_15 : decode cJ13_init 15 = .ok (.aload_n 0, 1) := dk_42 (dk_at dksJ13_init_0 15 rfl rfl)
theorem dJ13_init_16 : decode cJ13_init 16 = .ok (.getfield 1, 3) := dk_180 0 1 (dk_at dksJ13_init_0 16 rfl rfl)
theorem dJ13_init_19 : decode cJ13_init 19 = .ok (.getfield 17, 3) := dk_180 0 17 (dk_at dksJ13_init_0 19 rfl rfl)
theorem dJ13_init_22 : decode cJ13_init 22 = .ok (.putfield 22, 3) := dk_181 0 22 (dk_at dksJ13_init_1 0 rfl rfl)
theorem dJ13_init_25 : decode cJ13_init 25 = .ok (.return_, 1) := dk_177 (dk_at dksJ13_init_1 3 rfl rfl)
abbrev cJ13_hasNext : ByteArray := prog_67_method_2_code
def dkwJ13_hasNext_0 : List UInt8 := [42, 180, 0, 25, 42, 180, 0, 1, 180, 0, 28, 159, 0, 7, 4, 167, 0, 4, 3, 172]
abbrev dktJ13_hasNext_0 : List UInt8 := dkwJ13_hasNext_0 ++ []
theorem dksJ13_hasNext_0 : cJ13_hasNext.data.toList.drop 0 = dktJ13_hasNext_0 := by decide +kernel
theorem dJ13_hasNext_0 : decode cJ13_hasNext 0 = .ok (.aload_n 0, 1) := dk_42 (dk_at dksJ13_hasNext_0 0 rfl rfl)
theorem dJ13_hasNext_1 : decode cJ13_hasNext 1 = .ok (.getfield 25, 3) := dk_180 0 25 (dk_at dksJ13_hasNext_0 1 rfl rfl)
theorem dJ13_hasNext_4 : decode cJ13_hasNext 4 = .ok (.aload_n 0, 1) := dk_42 (dk_at dksJ13_hasNext_0 4 rfl rfl)
theorem dJ13_hasNext_5 : decode cJ13_hasNext 5 = .ok (.getfield 1, 3) := dk_180 0 1 (dk_at dksJ13_hasNext_0 5 rfl rfl)
theorem dJ13_hasNext_8 : decode cJ13_hasNext 8 = .ok (.getfield 28, 3) := dk_180 0 28 (dk_at dksJ13_hasNext_0 8 rfl rfl)
theorem dJ13_hasNext_11 : decode cJ13_hasNext 11 = .ok (.if_icmp .eq 7, 3) := dk_159 0 7 (dk_at dksJ13_hasNext_0 11 rfl rfl)
theorem dJ13_hasNext_14 : decode cJ13_hasNext 14 = .ok (.iconst 1, 1) := dk_4 (dk_at dksJ13_hasNext_0 14 rfl rfl)
theorem dJ13_hasNext_15 : decode cJ13_hasNext 15 = .ok (.goto 4, 3) := dk_167 0 4 (dk_at dksJ13_hasNext_0 15 rfl rfl)
theorem dJ13_hasNext_18 : decode cJ13_hasNext 18 = .ok (.iconst 0, 1) := dk_3 (dk_at dksJ13_hasNext_0 18 rfl rfl)
theorem dJ13_hasNext_19 : decode cJ13_hasNext 19 = .ok (.ireturn, 1) := dk_172 (dk_at dksJ13_hasNext_0 19 rfl rfl)
abbrev cJ13_next : ByteArray := prog_67_method_3_code
def dkwJ13_next_2 : List UInt8 := [183, 0, 43, 191, 42, 27, 4, 96, 181, 0, 25, 44, 42, 27, 90, 181, 0, 13, 50, 176]
abbrev dktJ13_next_2 : List UInt8 := dkwJ13_next_2 ++ []
def dkwJ13_next_1 : List UInt8 := [183, 0, 36, 191, 42, 180, 0, 1, 180, 0, 37, 77, 27, 44, 190, 161, 0, 11, 187, 0, 41, 89]
abbrev dktJ13_next_1 : List UInt8 := dkwJ13_next_1 ++ dktJ13_next_2
def dkwJ13_next_0 : List UInt8 := [42, 182, 0, 31, 42, 180, 0, 25, 60, 27, 42, 180, 0, 1, 180, 0, 28, 161, 0, 11, 187, 0, 34, 89]
abbrev dktJ13_next_0 : List UInt8 := dkwJ13_next_0 ++ dktJ13_next_1
theorem dksJ13_next_0 : cJ13_next.data.toList.drop 0 = dktJ13_next_0 := by decide +kernel
theorem dksJ13_next_1 : cJ13_next.data.toList.drop 24 = dktJ13_next_1 := dk_seg dksJ13_next_0 24 rfl rfl
theorem dksJ13_next_2 : cJ13_next.data.toList.drop 46 = dktJ13_next_2 := dk_seg dksJ13_next_1 22 rfl rfl
theorem dJ13_next_0 : decode cJ13_next 0 = .ok (.aload_n 0, 1) := dk_42 (dk_at dksJ13_next_0 0 rfl rfl)
theorem dJ13_next_1 : decode cJ13_next 1 = .ok (.invokevirtual 31, 3) := dk_182 0 31 (dk_at dksJ13_next_0 1 rfl rfl)
theorem dJ13_next_4 : decode cJ13_next 4 = .ok (.aload_n 0, 1) := dk_42 (dk_at dksJ13_next_0 4 rfl rfl)
theorem dJ13_next_5 : decode cJ13_next 5 = .ok (.getfield 25, 3) := dk_180 0 25 (dk_at dksJ13_next_0 5 rfl rfl)
theorem dJ13_next_8 : decode cJ13_next 8 = .ok (.istore_n 1, 1) := dk_60 (dk_at dksJ13_next_0 8 rfl rfl)
theorem dJ13_next_9 : decode cJ13_next 9 = .ok (.iload_n 1, 1) := dk_27 (dk_at dksJ13_next_0 9 rfl rfl)
theorem dJ13_next_10 : decode cJ13_next 10 = .ok (.aload_n 0, 1) := dk_42 (dk_at dksJ13_next_0 10 rfl rfl)
theorem dJ13_next_11 : decode cJ13_next 11 = .ok (.getfield 1, 3) := dk_180 0 1 (dk_at dksJ13_next_0 11 rfl rfl)
theorem dJ13_next_14 : decode cJ13_next 14 = .ok (.getfield 28, 3) := dk_180 0 28 (dk_at dksJ13_next_0 14 rfl rfl)
theorem dJ13_next_17 : decode cJ13_next 17 = .ok (.if_icmp .lt 11, 3) := dk_161 0 11 (dk_at dksJ13_next_0 17 rfl rfl)
theorem dJ13_next_20 : decode cJ13_next 20 = .ok (.new 34, 3) := dk_187 0 34 (dk_at dksJ13_next_0 20 rfl rfl)
theorem dJ13_next_28 : decode cJ13_next 28 = .ok (.aload_n 0, 1) := dk_42 (dk_at dksJ13_next_1 4 rfl rfl)
theorem dJ13_next_29 : decode cJ13_next 29 = .ok (.getfield 1, 3) := dk_180 0 1 (dk_at dksJ13_next_1 5 rfl rfl)
theorem dJ13_next_32 : decode cJ13_next 32 = .ok (.getfield 37, 3) := dk_180 0 37 (dk_at dksJ13_next_1 8 rfl rfl)
theorem dJ13_next_35 : decode cJ13_next 35 = .ok (.astore_n 2, 1) := dk_77 (dk_at dksJ13_next_1 11 rfl rfl)
theorem dJ13_next_36 : decode cJ13_next 36 = .ok (.iload_n 1, 1) := dk_27 (dk_at dksJ13_next_1 12 rfl rfl)
theorem dJ13_next_37 : decode cJ13_next 37 = .ok (.aload_n 2, 1) := dk_44 (dk_at dksJ13_next_1 13 rfl rfl)
theorem dJ13_next_38 : decode cJ13_next 38 = .ok (.arraylength, 1) := dk_190 (dk_at dksJ13_next_1 14 rfl rfl)
theorem dJ13_next_39 : decode cJ13_next 39 = .ok (.if_icmp .lt 11, 3) := dk_161 0 11 (dk_at dksJ13_next_1 15 rfl rfl)
theorem dJ13_next_42 : decode cJ13_next 42 = .ok (.new 41, 3) := dk_187 0 41 (dk_at dksJ13_next_1 18 rfl rfl)
theorem dJ13_next_50 : decode cJ13_next 50 = .ok (.aload_n 0, 1) := dk_42 (dk_at dksJ13_next_2 4 rfl rfl)
theorem dJ13_next_51 : decode cJ13_next 51 = .ok (.iload_n 1, 1) := dk_27 (dk_at dksJ13_next_2 5 rfl rfl)
theorem dJ13_next_52 : decode cJ13_next 52 = .ok (.iconst 1, 1) := dk_4 (dk_at dksJ13_next_2 6 rfl rfl)
theorem dJ13_next_53 : decode cJ13_next 53 = .ok (.iadd, 1) := dk_96 (dk_at dksJ13_next_2 7 rfl rfl)
theorem dJ13_next_54 : decode cJ13_next 54 = .ok (.putfield 25, 3) := dk_181 0 25 (dk_at dksJ13_next_2 8 rfl rfl)
theorem dJ13_next_57 : decode cJ13_next 57 = .ok (.aload_n 2, 1) := dk_44 (dk_at dksJ13_next_2 11 rfl rfl)
theorem dJ13_next_58 : decode cJ13_next 58 = .ok (.aload_n 0, 1) := dk_42 (dk_at dksJ13_next_2 12 rfl rfl)
theorem dJ13_next_59 : decode cJ13_next 59 = .ok (.iload_n 1, 1) := dk_27 (dk_at dksJ13_next_2 13 rfl rfl)
theorem dJ13_next_60 : decode cJ13_next 60 = .ok (.dup_x1, 1) := dk_90 (dk_at dksJ13_next_2 14 rfl rfl)
theorem dJ13_next_61 : decode cJ13_next 61 = .ok (.putfield 13, 3) := dk_181 0 13 (dk_at dksJ13_next_2 15 rfl rfl)
theorem dJ13_next_64 : decode cJ13_next 64 = .ok (.aaload, 1) := dk_50 (dk_at dksJ13_next_2 18 rfl rfl)
theorem dJ13_next_65 : decode cJ13_next 65 = .ok (.areturn, 1) := dk_176 (dk_at dksJ13_next_2 19 rfl rfl)
abbrev cJ13_checkForComodification : ByteArray := prog_67_method_6_code
def dkwJ13_checkForComodification_0 : List UInt8 := [42, 180, 0, 1, 180, 0, 17, 42, 180, 0, 22, 159, 0, 11, 187, 0, 41, 89, 183, 0, 43, 191, 177]
abbrev dktJ13_checkForComodification_0 : List UInt8 := dkwJ13_checkForComodification_0 ++ []
theorem dksJ13_checkForComodification_0 : cJ13_checkForComodification.data.toList.drop 0 = dktJ13_checkForComodification_0 := by decide +kernel
theorem dJ13_checkForComodification_0 : decode cJ13_checkForComodification 0 = .ok (.aload_n 0, 1) := dk_42 (dk_at dksJ13_checkForComodification_0 0 rfl rfl)
theorem dJ13_checkForComodification_1 : decode cJ13_checkForComodification 1 = .ok (.getfield 1, 3) := dk_180 0 1 (dk_at dksJ13_checkForComodification_0 1 rfl rfl)
theorem dJ13_checkForComodification_4 : decode cJ13_checkForComodification 4 = .ok (.getfield 17, 3) := dk_180 0 17 (dk_at dksJ13_checkForComodification_0 4 rfl rfl)
theorem dJ13_checkForComodification_7 : decode cJ13_checkForComodification 7 = .ok (.aload_n 0, 1) := dk_42 (dk_at dksJ13_checkForComodification_0 7 rfl rfl)
theorem dJ13_checkForComodification_8 : decode cJ13_checkForComodification 8 = .ok (.getfield 22, 3) := dk_180 0 22 (dk_at dksJ13_checkForComodification_0 8 rfl rfl)
theorem dJ13_checkForComodification_11 : decode cJ13_checkForComodification 11 = .ok (.if_icmp .eq 11, 3) := dk_159 0 11 (dk_at dksJ13_checkForComodification_0 11 rfl rfl)
theorem dJ13_checkForComodification_14 : decode cJ13_checkForComodification 14 = .ok (.new 41, 3) := dk_187 0 41 (dk_at dksJ13_checkForComodification_0 14 rfl rfl)
theorem dJ13_checkForComodification_22 : decode cJ13_checkForComodification 22 = .ok (.return_, 1) := dk_177 (dk_at dksJ13_checkForComodification_0 22 rfl rfl)
abbrev cJ24_hasNext : ByteArray := prog_75_method_2_code
def dkwJ24_hasNext_0 : List UInt8 := [42, 180, 0, 33, 42, 180, 0, 1, 180, 0, 22, 162, 0, 7, 4, 167, 0, 4, 3, 172]
abbrev dktJ24_hasNext_0 : List UInt8 := dkwJ24_hasNext_0 ++ []
theorem dksJ24_hasNext_0 : cJ24_hasNext.data.toList.drop 0 = dktJ24_hasNext_0 := by decide +kernel
theorem dJ24_hasNext_0 : decode cJ24_hasNext 0 = .ok (.aload_n 0, 1) := dk_42 (dk_at dksJ24_hasNext_0 0 rfl rfl)
theorem dJ24_hasNext_1 : decode cJ24_hasNext 1 = .ok (.getfield 33, 3) := dk_180 0 33 (dk_at dksJ24_hasNext_0 1 rfl rfl)
theorem dJ24_hasNext_4 : decode cJ24_hasNext 4 = .ok (.aload_n 0, 1) := dk_42 (dk_at dksJ24_hasNext_0 4 rfl rfl)
theorem dJ24_hasNext_5 : decode cJ24_hasNext 5 = .ok (.getfield 1, 3) := dk_180 0 1 (dk_at dksJ24_hasNext_0 5 rfl rfl)
theorem dJ24_hasNext_8 : decode cJ24_hasNext 8 = .ok (.getfield 22, 3) := dk_180 0 22 (dk_at dksJ24_hasNext_0 8 rfl rfl)
theorem dJ24_hasNext_11 : decode cJ24_hasNext 11 = .ok (.if_icmp .ge 7, 3) := dk_162 0 7 (dk_at dksJ24_hasNext_0 11 rfl rfl)
theorem dJ24_hasNext_14 : decode cJ24_hasNext 14 = .ok (.iconst 1, 1) := dk_4 (dk_at dksJ24_hasNext_0 14 rfl rfl)
theorem dJ24_hasNext_15 : decode cJ24_hasNext 15 = .ok (.goto 4, 3) := dk_167 0 4 (dk_at dksJ24_hasNext_0 15 rfl rfl)
theorem dJ24_hasNext_18 : decode cJ24_hasNext 18 = .ok (.iconst 0, 1) := dk_3 (dk_at dksJ24_hasNext_0 18 rfl rfl)
theorem dJ24_hasNext_19 : decode cJ24_hasNext 19 = .ok (.ireturn, 1) := dk_172 (dk_at dksJ24_hasNext_0 19 rfl rfl)
abbrev cJ24_next : ByteArray := prog_75_method_3_code
def dkwJ24_next_2 : List UInt8 := [42, 180, 0, 46, 180, 0, 52, 176]
abbrev dktJ24_next_2 : List UInt8 := dkwJ24_next_2 ++ []
def dkwJ24_next_1 : List UInt8 := [181, 0, 46, 42, 42, 180, 0, 29, 180, 0, 49, 181, 0, 29, 42, 89, 180, 0, 33, 4, 96, 181, 0, 33]
abbrev dktJ24_next_1 : List UInt8 := dkwJ24_next_1 ++ dktJ24_next_2
def dkwJ24_next_0 : List UInt8 := [42, 182, 0, 36, 42, 182, 0, 39, 154, 0, 11, 187, 0, 43, 89, 183, 0, 45, 191, 42, 42, 180, 0, 29]
abbrev dktJ24_next_0 : List UInt8 := dkwJ24_next_0 ++ dktJ24_next_1
theorem dksJ24_next_0 : cJ24_next.data.toList.drop 0 = dktJ24_next_0 := by decide +kernel
theorem dksJ24_next_1 : cJ24_next.data.toList.drop 24 = dktJ24_next_1 := dk_seg dksJ24_next_0 24 rfl rfl
theorem dksJ24_next_2 : cJ24_next.data.toList.drop 48 = dktJ24_next_2 := dk_seg dksJ24_next_1 24 rfl rfl
theorem dJ24_next_0 : decode cJ24_next 0 = .ok (.aload_n 0, 1) := dk_42 (dk_at dksJ24_next_0 0 rfl rfl)
theorem dJ24_next_1 : decode cJ24_next 1 = .ok (.invokevirtual 36, 3) := dk_182 0 36 (dk_at dksJ24_next_0 1 rfl rfl)
theorem dJ24_next_4 : decode cJ24_next 4 = .ok (.aload_n 0, 1) := dk_42 (dk_at dksJ24_next_0 4 rfl rfl)
theorem dJ24_next_5 : decode cJ24_next 5 = .ok (.invokevirtual 39, 3) := dk_182 0 39 (dk_at dksJ24_next_0 5 rfl rfl)
theorem dJ24_next_8 : decode cJ24_next 8 = .ok (.ifCond .ne 11, 3) := dk_154 0 11 (dk_at dksJ24_next_0 8 rfl rfl)
theorem dJ24_next_11 : decode cJ24_next 11 = .ok (.new 43, 3) := dk_187 0 43 (dk_at dksJ24_next_0 11 rfl rfl)
theorem dJ24_next_19 : decode cJ24_next 19 = .ok (.aload_n 0, 1) := dk_42 (dk_at dksJ24_next_0 19 rfl rfl)
theorem dJ24_next_20 : decode cJ24_next 20 = .ok (.aload_n 0, 1) := dk_42 (dk_at dksJ24_next_0 20 rfl rfl)
theorem dJ24_next_21 : decode cJ24_next 21 = .ok (.getfield 29, 3) := dk_180 0 29 (dk_at dksJ24_next_0 21 rfl rfl)
theorem dJ24_next_24 : decode cJ24_next 24 = .ok (.putfield 46, 3) := dk_181 0 46 (dk_at dksJ24_next_1 0 rfl rfl)
theorem dJ24_next_27 : decode cJ24_next 27 = .ok (.aload_n 0, 1) := dk_42 (dk_at dksJ24_next_1 3 rfl rfl)
theorem dJ24_next_28 : decode cJ24_next 28 = .ok (.aload_n 0, 1) := dk_42 (dk_at dksJ24_next_1 4 rfl rfl)
theorem dJ24_next_29 : decode cJ24_next 29 = .ok (.getfield 29, 3) := dk_180 0 29 (dk_at dksJ24_next_1 5 rfl rfl)
theorem dJ24_next_32 : decode cJ24_next 32 = .ok (.getfield 49, 3) := dk_180 0 49 (dk_at dksJ24_next_1 8 rfl rfl)
theorem dJ24_next_35 : decode cJ24_next 35 = .ok (.putfield 29, 3) := dk_181 0 29 (dk_at dksJ24_next_1 11 rfl rfl)
theorem dJ24_next_38 : decode cJ24_next 38 = .ok (.aload_n 0, 1) := dk_42 (dk_at dksJ24_next_1 14 rfl rfl)
theorem dJ24_next_39 : decode cJ24_next 39 = .ok (.dup, 1) := dk_89 (dk_at dksJ24_next_1 15 rfl rfl)
theorem dJ24_next_40 : decode cJ24_next 40 = .ok (.getfield 33, 3) := dk_180 0 33 (dk_at dksJ24_next_1 16 rfl rfl)
theorem dJ24_next_43 : decode cJ24_next 43 = .ok (.iconst 1, 1) := dk_4 (dk_at dksJ24_next_1 19 rfl rfl)
theorem dJ24_next_44 : decode cJ24_next 44 = .ok (.iadd, 1) := dk_96 (dk_at dksJ24_next_1 20 rfl rfl)
theorem dJ24_next_45 : decode cJ24_next 45 = .ok (.putfield 33, 3) := dk_181 0 33 (dk_at dksJ24_next_1 21 rfl rfl)
theorem dJ24_next_48 : decode cJ24_next 48 = .ok (.aload_n 0, 1) := dk_42 (dk_at dksJ24_next_2 0 rfl rfl)
theorem dJ24_next_49 : decode cJ24_next 49 = .ok (.getfield 46, 3) := dk_180 0 46 (dk_at dksJ24_next_2 1 rfl rfl)
theorem dJ24_next_52 : decode cJ24_next 52 = .ok (.getfield 52, 3) := dk_180 0 52 (dk_at dksJ24_next_2 4 rfl rfl)
theorem dJ24_next_55 : decode cJ24_next 55 = .ok (.areturn, 1) := dk_176 (dk_at dksJ24_next_2 7 rfl rfl)
abbrev cJ24_checkForComodification : ByteArray := prog_75_method_12_code
def dkwJ24_checkForComodification_0 : List UInt8 := [42, 180, 0, 1, 180, 0, 13, 42, 180, 0, 19, 159, 0, 11, 187, 0, 91, 89, 183, 0, 93, 191, 177]
abbrev dktJ24_checkForComodification_0 : List UInt8 := dkwJ24_checkForComodification_0 ++ []
theorem dksJ24_checkForComodification_0 : cJ24_checkForComodification.data.toList.drop 0 = dktJ24_checkForComodification_0 := by decide +kernel
theorem dJ24_checkForComodification_0 : decode cJ24_checkForComodification 0 = .ok (.aload_n 0, 1) := dk_42 (dk_at dksJ24_checkForComodification_0 0 rfl rfl)
theorem dJ24_checkForComodification_1 : decode cJ24_checkForComodification 1 = .ok (.getfield 1, 3) := dk_180 0 1 (dk_at dksJ24_checkForComodification_0 1 rfl rfl)
theorem dJ24_checkForComodification_4 : decode cJ24_checkForComodification 4 = .ok (.getfield 13, 3) := dk_180 0 13 (dk_at dksJ24_checkForComodification_0 4 rfl rfl)
theorem dJ24_checkForComodification_7 : decode cJ24_checkForComodification 7 = .ok (.aload_n 0, 1) := dk_42 (dk_at dksJ24_checkForComodification_0 7 rfl rfl)
theorem dJ24_checkForComodification_8 : decode cJ24_checkForComodification 8 = .ok (.getfield 19, 3) := dk_180 0 19 (dk_at dksJ24_checkForComodification_0 8 rfl rfl)
theorem dJ24_checkForComodification_11 : decode cJ24_checkForComodification 11 = .ok (.if_icmp .eq 11, 3) := dk_159 0 11 (dk_at dksJ24_checkForComodification_0 11 rfl rfl)
theorem dJ24_checkForComodification_14 : decode cJ24_checkForComodification 14 = .ok (.new 91, 3) := dk_187 0 91 (dk_at dksJ24_checkForComodification_0 14 rfl rfl)
theorem dJ24_checkForComodification_22 : decode cJ24_checkForComodification 22 = .ok (.return_, 1) := dk_177 (dk_at dksJ24_checkForComodification_0 22 rfl rfl)
abbrev cJ29_hasNext : ByteArray := prog_100_method_2_code
def dkwJ29_hasNext_0 : List UInt8 := [42, 180, 0, 26, 198, 0, 7, 4, 167, 0, 4, 3, 172]
abbrev dktJ29_hasNext_0 : List UInt8 := dkwJ29_hasNext_0 ++ []
theorem dksJ29_hasNext_0 : cJ29_hasNext.data.toList.drop 0 = dktJ29_hasNext_0 := by decide +kernel
theorem dJ29_hasNext_0 : decode cJ29_hasNext 0 = .ok (.aload_n 0, 1) := dk_42 (dk_at dksJ29_hasNext_0 0 rfl rfl)
theorem dJ29_hasNext_1 : decode cJ29_hasNext 1 = .ok (.getfield 26, 3) := dk_180 0 26 (dk_at dksJ29_hasNext_0 1 rfl rfl)
theorem dJ29_hasNext_4 : decode cJ29_hasNext 4 = .ok (.ifnull 7, 3) := dk_198 0 7 (dk_at dksJ29_hasNext_0 4 rfl rfl)
theorem dJ29_hasNext_7 : decode cJ29_hasNext 7 = .ok (.iconst 1, 1) := dk_4 (dk_at dksJ29_hasNext_0 7 rfl rfl)
theorem dJ29_hasNext_8 : decode cJ29_hasNext 8 = .ok (.goto 4, 3) := dk_167 0 4 (dk_at dksJ29_hasNext_0 8 rfl rfl)
theorem dJ29_hasNext_11 : decode cJ29_hasNext 11 = .ok (.iconst 0, 1) := dk_3 (dk_at dksJ29_hasNext_0 11 rfl rfl)
theorem dJ29_hasNext_12 : decode cJ29_hasNext 12 = .ok (.ireturn, 1) := dk_172 (dk_at dksJ29_hasNext_0 12 rfl rfl)
abbrev cJ29_nextEntry : ByteArray := prog_100_method_3_code
def dkwJ29_nextEntry_2 : List UInt8 := [43, 181, 0, 22, 43, 176]
abbrev dktJ29_nextEntry_2 : List UInt8 := dkwJ29_nextEntry_2 ++ []
def dkwJ29_nextEntry_1 : List UInt8 := [42, 180, 0, 19, 159, 0, 11, 187, 0, 32, 89, 183, 0, 34, 191, 42, 43, 184, 0, 35, 181, 0, 26, 42]
abbrev dktJ29_nextEntry_1 : List UInt8 := dkwJ29_nextEntry_1 ++ dktJ29_nextEntry_2
def dkwJ29_nextEntry_0 : List UInt8 := [42, 180, 0, 26, 76, 43, 199, 0, 11, 187, 0, 29, 89, 183, 0, 31, 191, 42, 180, 0, 1, 180, 0, 13]
abbrev dktJ29_nextEntry_0 : List UInt8 := dkwJ29_nextEntry_0 ++ dktJ29_nextEntry_1
theorem dksJ29_nextEntry_0 : cJ29_nextEntry.data.toList.drop 0 = dktJ29_nextEntry_0 := by decide +kernel
theorem dksJ29_nextEntry_1 : cJ29_nextEntry.data.toList.drop 24 = dktJ29_nextEntry_1 := dk_seg dksJ29_nextEntry_0 24 rfl rfl
theorem dksJ29_nextEntry_2 : cJ29_nextEntry.data.toList.drop 48 = dktJ29_nextEntry_2 := dk_seg dksJ29_nextEntry_1 24 rfl rfl
theorem dJ29_nextEntry_0 : decode cJ29_nextEntry 0 = .ok (.aload_n 0, 1) := dk_42 (dk_at dksJ29_nextEntry_0 0 rfl rfl)
theorem dJ29_nextEntry_1 : decode cJ29_nextEntry 1 = .ok (.getfield 26, 3) := dk_180 0 26 (dk_at dksJ29_nextEntry_0 1 rfl rfl)
theorem dJ29_nextEntry_4 : decode cJ29_nextEntry 4 = .ok (.astore_n 1, 1) := dk_76 (dk_at dksJ29_nextEntry_0 4 rfl rfl)
theorem dJ29_nextEntry_5 : decode cJ29_nextEntry 5 = .ok (.aload_n 1, 1) := dk_43 (dk_at dksJ29_nextEntry_0 5 rfl rfl)
theorem dJ29_nextEntry_6 : decode cJ29_nextEntry 6 = .ok (.ifnonnull 11, 3) := dk_199 0 11 (dk_at dksJ29_nextEntry_0 6 rfl rfl)
theorem dJ29_nextEntry_9 : decode cJ29_nextEntry 9 = .ok (.new 29, 3) := dk_187 0 29 (dk_at dksJ29_nextEntry_0 9 rfl rfl)
theorem dJ29_nextEntry_17 : decode cJ29_nextEntry 17 = .ok (.aload_n 0, 1) := dk_42 (dk_at dksJ29_nextEntry_0 17 rfl rfl)
theorem dJ29_nextEntry_18 : decode cJ29_nextEntry 18 = .ok (.getfield 1, 3) := dk_180 0 1 (dk_at dksJ29_nextEntry_0 18 rfl rfl)
theorem dJ29_nextEntry_21 : decode cJ29_nextEntry 21 = .ok (.getfield 13, 3) := dk_180 0 13 (dk_at dksJ29_nextEntry_0 21 rfl rfl)
theorem dJ29_nextEntry_24 : decode cJ29_nextEntry 24 = .ok (.aload_n 0, 1) := dk_42 (dk_at dksJ29_nextEntry_1 0 rfl rfl)
theorem dJ29_nextEntry_25 : decode cJ29_nextEntry 25 = .ok (.getfield 19, 3) := dk_180 0 19 (dk_at dksJ29_nextEntry_1 1 rfl rfl)
theorem dJ29_nextEntry_28 : decode cJ29_nextEntry 28 = .ok (.if_icmp .eq 11, 3) := dk_159 0 11 (dk_at dksJ29_nextEntry_1 4 rfl rfl)
theorem dJ29_nextEntry_31 : decode cJ29_nextEntry 31 = .ok (.new 32, 3) := dk_187 0 32 (dk_at dksJ29_nextEntry_1 7 rfl rfl)
theorem dJ29_nextEntry_39 : decode cJ29_nextEntry 39 = .ok (.aload_n 0, 1) := dk_42 (dk_at dksJ29_nextEntry_1 15 rfl rfl)
theorem dJ29_nextEntry_40 : decode cJ29_nextEntry 40 = .ok (.aload_n 1, 1) := dk_43 (dk_at dksJ29_nextEntry_1 16 rfl rfl)
theorem dJ29_nextEntry_41 : decode cJ29_nextEntry 41 = .ok (.invokestatic 35, 3) := dk_184 0 35 (dk_at dksJ29_nextEntry_1 17 rfl rfl)
theorem dJ29_nextEntry_44 : decode cJ29_nextEntry 44 = .ok (.putfield 26, 3) := dk_181 0 26 (dk_at dksJ29_nextEntry_1 20 rfl rfl)
theorem dJ29_nextEntry_47 : decode cJ29_nextEntry 47 = .ok (.aload_n 0, 1) := dk_42 (dk_at dksJ29_nextEntry_1 23 rfl rfl)
theorem dJ29_nextEntry_48 : decode cJ29_nextEntry 48 = .ok (.aload_n 1, 1) := dk_43 (dk_at dksJ29_nextEntry_2 0 rfl rfl)
theorem dJ29_nextEntry_49 : decode cJ29_nextEntry 49 = .ok (.putfield 22, 3) := dk_181 0 22 (dk_at dksJ29_nextEntry_2 1 rfl rfl)
theorem dJ29_nextEntry_52 : decode cJ29_nextEntry 52 = .ok (.aload_n 1, 1) := dk_43 (dk_at dksJ29_nextEntry_2 4 rfl rfl)
theorem dJ29_nextEntry_53 : decode cJ29_nextEntry 53 = .ok (.areturn, 1) := dk_176 (dk_at dksJ29_nextEntry_2 5 rfl rfl)
abbrev cJ29_init : ByteArray := prog_100_method_1_code
def dkwJ29_init_1 : List UInt8 := [181, 0, 26, 177]
abbrev dktJ29_init_1 : List UInt8 := dkwJ29_init_1 ++ []
def dkwJ29_init_0 : List UInt8 := [42, 43, 181, 0, 1, 42, 183, 0, 7, 42, 43, 180, 0, 13, 181, 0, 19, 42, 1, 181, 0, 22, 42, 44]
abbrev dktJ29_init_0 : List UInt8 := dkwJ29_init_0 ++ dktJ29_init_1
theorem dksJ29_init_0 : cJ29_init.data.toList.drop 0 = dktJ29_init_0 := by decide +kernel
theorem dksJ29_init_1 : cJ29_init.data.toList.drop 24 = dktJ29_init_1 := dk_seg dksJ29_init_0 24 rfl rfl
theorem dJ29_init_0 : decode cJ29_init 0 = .ok (.aload_n 0, 1) := dk_42 (dk_at dksJ29_init_0 0 rfl rfl)
theorem dJ29_init_1 : decode cJ29_init 1 = .ok (.aload_n 1, 1) := dk_43 (dk_at dksJ29_init_0 1 rfl rfl)
theorem dJ29_init_2 : decode cJ29_init 2 = .ok (.putfield 1, 3) := dk_181 0 1 (dk_at dksJ29_init_0 2 rfl rfl)
theorem dJ29_init_5 : decode cJ29_init 5 = .ok (.aload_n 0, 1) := dk_42 (dk_at dksJ29_init_0 5 rfl rfl)
theorem dJ29_init_6 : decode cJ29_init 6 = .ok (.invokespecial 7, 3) := dk_183 0 7 (dk_at dksJ29_init_0 6 rfl rfl)
theorem dJ29_init_9 : decode cJ29_init 9 = .ok (.aload_n 0, 1) := dk_42 (dk_at dksJ29_init_0 9 rfl rfl)
theorem dJ29_init_10 : decode cJ29_init 10 = .ok (.aload_n 1, 1) := dk_43 (dk_at dksJ29_init_0 10 rfl rfl)
theorem dJ29_init_11 : decode cJ29_init 11 = .ok (.getfield 13, 3) := dk_180 0 13 (dk_at dksJ29_init_0 11 rfl rfl)
theorem dJ29_init_14 : decode cJ29_init 14 = .ok (.putfield 19, 3) := dk_181 0 19 (dk_at dksJ29_init_0 14 rfl rfl)
theorem dJ29_init_17 : decode cJ29_init 17 = .ok (.aload_n 0, 1) := dk_42 (dk_at dksJ29_init_0 17 rfl rfl)
theorem dJ29_init_18 : decode cJ29_init 18 = .ok (.aconst_null, 1) := dk_1 (dk_at dksJ29_init_0 18 rfl rfl)
theorem dJ29_init_19 : decode cJ29_init 19 = .ok (.putfield 22, 3) := dk_181 0 22 (dk_at dksJ29_init_0 19 rfl rfl)
theorem dJ29_init_22 : decode cJ29_init 22 = .ok (.aload_n 0, 1) := dk_42 (dk_at dksJ29_init_0 22 rfl rfl)
theorem dJ29_init_23 : decode cJ29_init 23 = .ok (.aload_n 2, 1) := dk_44 (dk_at dksJ29_init_0 23 rfl rfl)
theorem dJ29_init_24 : decode cJ29_init 24 = .ok (.putfield 26, 3) := dk_181 0 26 (dk_at dksJ29_init_1 0 rfl rfl)
theorem dJ29_init_27 : decode cJ29_init 27 = .ok (.return_, 1) := dk_177 (dk_at dksJ29_init_1 3 rfl rfl)
abbrev cJ28_successor : ByteArray := prog_93_method_74_code
def dkwJ28_successor_2 : List UInt8 := [44, 43, 180, 0, 114, 166, 0, 13, 43, 77, 43, 180, 0, 124, 76, 167, 255, 237, 43, 176]
abbrev dktJ28_successor_2 : List UInt8 := dkwJ28_successor_2 ++ []
def dkwJ28_successor_1 : List UInt8 := [198, 0, 11, 43, 180, 0, 111, 76, 167, 255, 244, 43, 176, 42, 180, 0, 124, 76, 42, 77, 43, 198, 0, 21]
abbrev dktJ28_successor_1 : List UInt8 := dkwJ28_successor_1 ++ dktJ28_successor_2
def dkwJ28_successor_0 : List UInt8 := [42, 199, 0, 5, 1, 176, 42, 180, 0, 114, 198, 0, 25, 42, 180, 0, 114, 76, 43, 180, 0, 111]
abbrev dktJ28_successor_0 : List UInt8 := dkwJ28_successor_0 ++ dktJ28_successor_1
theorem dksJ28_successor_0 : cJ28_successor.data.toList.drop 0 = dktJ28_successor_0 := by decide +kernel
theorem dksJ28_successor_1 : cJ28_successor.data.toList.drop 22 = dktJ28_successor_1 := dk_seg dksJ28_successor_0 22 rfl rfl
theorem dksJ28_successor_2 : cJ28_successor.data.toList.drop 46 = dktJ28_successor_2 := dk_seg dksJ28_successor_1 24 rfl rfl
theorem dJ28_successor_0 : decode cJ28_successor 0 = .ok (.aload_n 0, 1) := dk_42 (dk_at dksJ28_successor_0 0 rfl rfl)
theorem dJ28_successor_1 : decode cJ28_successor 1 = .ok (.ifnonnull 5, 3) := dk_199 0 5 (dk_at dksJ28_successor_0 1 rfl rfl)
theorem dJ28_successor_4 : decode cJ28_successor 4 = .ok (.aconst_null, 1) := dk_1 (dk_at dksJ28_successor_0 4 rfl rfl)
theorem dJ28_successor_5 : decode cJ28_successor 5 = .ok (.areturn, 1) := dk_176 (dk_at dksJ28_successor_0 5 rfl rfl)
theorem dJ28_successor_6 : decode cJ28_successor 6 = .ok (.aload_n 0, 1) := dk_42 (dk_at dksJ28_successor_0 6 rfl rfl)
theorem dJ28_successor_7 : decode cJ28_successor 7 = .ok (.getfield 114, 3) := dk_180 0 114 (dk_at dksJ28_successor_0 7 rfl rfl)
theorem dJ28_successor_10 : decode cJ28_successor 10 = .ok (.ifnull 25, 3) := dk_198 0 25 (dk_at dksJ28_successor_0 10 rfl rfl)
theorem dJ28_successor_13 : decode cJ28_successor 13 = .ok (.aload_n 0, 1) := dk_42 (dk_at dksJ28_successor_0 13 rfl rfl)
theorem dJ28_successor_14 : decode cJ28_successor 14 = .ok (.getfield 114, 3) := dk_180 0 114 (dk_at dksJ28_successor_0 14 rfl rfl)
theorem dJ28_successor_17 : decode cJ28_successor 17 = .ok (.astore_n 1, 1) := dk_76 (dk_at dksJ28_successor_0 17 rfl rfl)
theorem dJ28_successor_18 : decode cJ28_successor 18 = .ok (.aload_n 1, 1) := dk_43 (dk_at dksJ28_successor_0 18 rfl rfl)
theorem dJ28_successor_19 : decode cJ28_successor 19 = .ok (.getfield 111, 3) := dk_180 0 111 (dk_at dksJ28_successor_0 19 rfl rfl)
theorem dJ28_successor_22 : decode cJ28_successor 22 = .ok (.ifnull 11, 3) := dk_198 0 11 (dk_at dksJ28_successor_1 0 rfl rfl)
theorem dJ28_successor_25 : decode cJ28_successor 25 = .ok (.aload_n 1, 1) := dk_43 (dk_at dksJ28_successor_1 3 rfl rfl)
theorem dJ28_successor_26 : decode cJ28_successor 26 = .ok (.getfield 111, 3) := dk_180 0 111 (dk_at dksJ28_successor_1 4 rfl rfl)
theorem dJ28_successor_29 : decode cJ28_successor 29 = .ok (.astore_n 1, 1) := dk_76 (dk_at dksJ28_successor_1 7 rfl rfl)
theorem dJ28_successor_30 : decode cJ28_successor 30 = .ok (.goto (-12), 3) := dk_167 255 244 (dk_at dksJ28_successor_1 8 rfl rfl)
theorem dJ28_successor_33 : decode cJ28_successor 33 = .ok (.aload_n 1, 1) := dk_43 (dk_at dksJ28_successor_1 11 rfl rfl)
theorem dJ28_successor_34 : decode cJ28_successor 34 = .ok (.areturn, 1) := dk_176 (dk_at dksJ28_successor_1 12 rfl rfl)
theorem dJ28_successor_35 : decode cJ28_successor 35 = .ok (.aload_n 0, 1) := dk_42 (dk_at dksJ28_successor_1 13 rfl rfl)
theorem dJ28_successor_36 : decode cJ28_successor 36 = .ok (.getfield 124, 3) := dk_180 0 124 (dk_at dksJ28_successor_1 14 rfl rfl)
theorem dJ28_successor_39 : decode cJ28_successor 39 = .ok (.astore_n 1, 1) := dk_76 (dk_at dksJ28_successor_1 17 rfl rfl)
theorem dJ28_successor_40 : decode cJ28_successor 40 = .ok (.aload_n 0, 1) := dk_42 (dk_at dksJ28_successor_1 18 rfl rfl)
theorem dJ28_successor_41 : decode cJ28_successor 41 = .ok (.astore_n 2, 1) := dk_77 (dk_at dksJ28_successor_1 19 rfl rfl)
theorem dJ28_successor_42 : decode cJ28_successor 42 = .ok (.aload_n 1, 1) := dk_43 (dk_at dksJ28_successor_1 20 rfl rfl)
theorem dJ28_successor_43 : decode cJ28_successor 43 = .ok (.ifnull 21, 3) := dk_198 0 21 (dk_at dksJ28_successor_1 21 rfl rfl)
theorem dJ28_successor_46 : decode cJ28_successor 46 = .ok (.aload_n 2, 1) := dk_44 (dk_at dksJ28_successor_2 0 rfl rfl)
theorem dJ28_successor_47 : decode cJ28_successor 47 = .ok (.aload_n 1, 1) := dk_43 (dk_at dksJ28_successor_2 1 rfl rfl)
theorem dJ28_successor_48 : decode cJ28_successor 48 = .ok (.getfield 114, 3) := dk_180 0 114 (dk_at dksJ28_successor_2 2 rfl rfl)
theorem dJ28_successor_51 : decode cJ28_successor 51 = .ok (.if_acmp .ne 13, 3) := dk_166 0 13 (dk_at dksJ28_successor_2 5 rfl rfl)
theorem dJ28_successor_54 : decode cJ28_successor 54 = .ok (.aload_n 1, 1) := dk_43 (dk_at dksJ28_successor_2 8 rfl rfl)
theorem dJ28_successor_55 : decode cJ28_successor 55 = .ok (.astore_n 2, 1) := dk_77 (dk_at dksJ28_successor_2 9 rfl rfl)
theorem dJ28_successor_56 : decode cJ28_successor 56 = .ok (.aload_n 1, 1) := dk_43 (dk_at dksJ28_successor_2 10 rfl rfl)
theorem dJ28_successor_57 : decode cJ28_successor 57 = .ok (.getfield 124, 3) := dk_180 0 124 (dk_at dksJ28_successor_2 11 rfl rfl)
theorem dJ28_successor_60 : decode cJ28_successor 60 = .ok (.astore_n 1, 1) := dk_76 (dk_at dksJ28_successor_2 14 rfl rfl)
theorem dJ28_successor_61 : decode cJ28_successor 61 = .ok (.goto (-19), 3) := dk_167 255 237 (dk_at dksJ28_successor_2 15 rfl rfl)
theorem dJ28_successor_64 : decode cJ28_successor 64 = .ok (.aload_n 1, 1) := dk_43 (dk_at dksJ28_successor_2 18 rfl rfl)
theorem dJ28_successor_65 : decode cJ28_successor 65 = .ok (.areturn, 1) := dk_176 (dk_at dksJ28_successor_2 19 rfl rfl)
abbrev cJ28_values : ByteArray := prog_93_method_52_code
def dkwJ28_values_1 : List UInt8 := [176]
abbrev dktJ28_values_1 : List UInt8 := dkwJ28_values_1 ++ []
def dkwJ28_values_0 : List UInt8 := [42, 180, 0, 233, 76, 43, 199, 0, 17, 187, 0, 237, 89, 42, 183, 0, 239, 76, 42, 43, 181, 0, 233, 43]
abbrev dktJ28_values_0 : List UInt8 := dkwJ28_values_0 ++ dktJ28_values_1
theorem dksJ28_values_0 : cJ28_values.data.toList.drop 0 = dktJ28_values_0 := by decide +kernel
theorem dksJ28_values_1 : cJ28_values.data.toList.drop 24 = dktJ28_values_1 := dk_seg dksJ28_values_0 24 rfl rfl
theorem dJ28_values_0 : decode cJ28_values 0 = .ok (.aload_n 0, 1) := dk_42 (dk_at dksJ28_values_0 0 rfl rfl)
theorem dJ28_values_1 : decode cJ28_values 1 = .ok (.getfield 233, 3) := dk_180 0 233 (dk_at dksJ28_values_0 1 rfl rfl)
theorem dJ28_values_4 : decode cJ28_values 4 = .ok (.astore_n 1, 1) := dk_76 (dk_at dksJ28_values_0 4 rfl rfl)
theorem dJ28_values_5 : decode cJ28_values 5 = .ok (.aload_n 1, 1) := dk_43 (dk_at dksJ28_values_0 5 rfl rfl)
theorem dJ28_values_6 : decode cJ28_values 6 = .ok (.ifnonnull 17, 3) := dk_199 0 17 (dk_at dksJ28_values_0 6 rfl rfl)
theorem dJ28_values_9 : decode cJ28_values 9 = .ok (.new 237, 3) := dk_187 0 237 (dk_at dksJ28_values_0 9 rfl rfl)
theorem dJ28_values_12 : decode cJ28_values 12 = .ok (.dup, 1) := dk_89 (dk_at dksJ28_values_0 12 rfl rfl)
theorem dJ28_values_13 : decode cJ28_values 13 = .ok (.aload_n 0, 1) := dk_42 (dk_at dksJ28_values_0 13 rfl rfl)
theorem dJ28_values_14 : decode cJ28_values 14 = .ok (.invokespecial 239, 3) := dk_183 0 239 (dk_at dksJ28_values_0 14 rfl rfl)
theorem dJ28_values_17 : decode cJ28_values 17 = .ok (.astore_n 1, 1) := dk_76 (dk_at dksJ28_values_0 17 rfl rfl)
theorem dJ28_values_18 : decode cJ28_values 18 = .ok (.aload_n 0, 1) := dk_42 (dk_at dksJ28_values_0 18 rfl rfl)
theorem dJ28_values_19 : decode cJ28_values 19 = .ok (.aload_n 1, 1) := dk_43 (dk_at dksJ28_values_0 19 rfl rfl)
theorem dJ28_values_20 : decode cJ28_values 20 = .ok (.putfield 233, 3) := dk_181 0 233 (dk_at dksJ28_values_0 20 rfl rfl)
theorem dJ28_values_23 : decode cJ28_values 23 = .ok (.aload_n 1, 1) := dk_43 (dk_at dksJ28_values_0 23 rfl rfl)
theorem dJ28_values_24 : decode cJ28_values 24 = .ok (.areturn, 1) := dk_176 (dk_at dksJ28_values_1 0 rfl rfl)
abbrev cJ28_getFirstEntry : ByteArray := prog_93_method_72_code
def dkwJ28_getFirstEntry_1 : List UInt8 := [43, 176]
abbrev dktJ28_getFirstEntry_1 : List UInt8 := dkwJ28_getFirstEntry_1 ++ []
def dkwJ28_getFirstEntry_0 : List UInt8 := [42, 180, 0, 101, 76, 43, 198, 0, 18, 43, 180, 0, 111, 198, 0, 11, 43, 180, 0, 111, 76, 167, 255, 244]
abbrev dktJ28_getFirstEntry_0 : List UInt8 := dkwJ28_getFirstEntry_0 ++ dktJ28_getFirstEntry_1
theorem dksJ28_getFirstEntry_0 : cJ28_getFirstEntry.data.toList.drop 0 = dktJ28_getFirstEntry_0 := by decide +kernel
theorem dksJ28_getFirstEntry_1 : cJ28_getFirstEntry.data.toList.drop 24 = dktJ28_getFirstEntry_1 := dk_seg dksJ28_getFirstEntry_0 24 rfl rfl
theorem dJ28_getFirstEntry_0 : decode cJ28_getFirstEntry 0 = .ok (.aload_n 0, 1) := dk_42 (dk_at dksJ28_getFirstEntry_0 0 rfl rfl)
theorem dJ28_getFirstEntry_1 : decode cJ28_getFirstEntry 1 = .ok (.getfield 101, 3) := dk_180 0 101 (dk_at dksJ28_getFirstEntry_0 1 rfl rfl)
theorem dJ28_getFirstEntry_4 : decode cJ28_getFirstEntry 4 = .ok (.astore_n 1, 1) := dk_76 (dk_at dksJ28_getFirstEntry_0 4 rfl rfl)
theorem dJ28_getFirstEntry_5 : decode cJ28_getFirstEntry 5 = .ok (.aload_n 1, 1) := dk_43 (dk_at dksJ28_getFirstEntry_0 5 rfl rfl)
theorem dJ28_getFirstEntry_6 : decode cJ28_getFirstEntry 6 = .ok (.ifnull 18, 3) := dk_198 0 18 (dk_at dksJ28_getFirstEntry_0 6 rfl rfl)
theorem dJ28_getFirstEntry_9 : decode cJ28_getFirstEntry 9 = .ok (.aload_n 1, 1) := dk_43 (dk_at dksJ28_getFirstEntry_0 9 rfl rfl)
theorem dJ28_getFirstEntry_10 : decode cJ28_getFirstEntry 10 = .ok (.getfield 111, 3) := dk_180 0 111 (dk_at dksJ28_getFirstEntry_0 10 rfl rfl)
theorem dJ28_getFirstEntry_13 : decode cJ28_getFirstEntry 13 = .ok (.ifnull 11, 3) := dk_198 0 11 (dk_at dksJ28_getFirstEntry_0 13 rfl rfl)
theorem dJ28_getFirstEntry_16 : decode cJ28_getFirstEntry 16 = .ok (.aload_n 1, 1) := dk_43 (dk_at dksJ28_getFirstEntry_0 16 rfl rfl)
theorem dJ28_getFirstEntry_17 : decode cJ28_getFirstEntry 17 = .ok (.getfield 111, 3) := dk_180 0 111 (dk_at dksJ28_getFirstEntry_0 17 rfl rfl)
theorem dJ28_getFirstEntry_20 : decode cJ28_getFirstEntry 20 = .ok (.astore_n 1, 1) := dk_76 (dk_at dksJ28_getFirstEntry_0 20 rfl rfl)
theorem dJ28_getFirstEntry_21 : decode cJ28_getFirstEntry 21 = .ok (.goto (-12), 3) := dk_167 255 244 (dk_at dksJ28_getFirstEntry_0 21 rfl rfl)
theorem dJ28_getFirstEntry_24 : decode cJ28_getFirstEntry 24 = .ok (.aload_n 1, 1) := dk_43 (dk_at dksJ28_getFirstEntry_1 0 rfl rfl)
theorem dJ28_getFirstEntry_25 : decode cJ28_getFirstEntry 25 = .ok (.areturn, 1) := dk_176 (dk_at dksJ28_getFirstEntry_1 1 rfl rfl)
abbrev cJ28_keyIterator : ByteArray := prog_93_method_65_code
def dkwJ28_keyIterator_0 : List UInt8 := [187, 1, 13, 89, 42, 42, 182, 0, 54, 183, 1, 15, 176]
abbrev dktJ28_keyIterator_0 : List UInt8 := dkwJ28_keyIterator_0 ++ []
theorem dksJ28_keyIterator_0 : cJ28_keyIterator.data.toList.drop 0 = dktJ28_keyIterator_0 := by decide +kernel
theorem dJ28_keyIterator_0 : decode cJ28_keyIterator 0 = .ok (.new 269, 3) := dk_187 1 13 (dk_at dksJ28_keyIterator_0 0 rfl rfl)
theorem dJ28_keyIterator_3 : decode cJ28_keyIterator 3 = .ok (.dup, 1) := dk_89 (dk_at dksJ28_keyIterator_0 3 rfl rfl)
theorem dJ28_keyIterator_4 : decode cJ28_keyIterator 4 = .ok (.aload_n 0, 1) := dk_42 (dk_at dksJ28_keyIterator_0 4 rfl rfl)
theorem dJ28_keyIterator_5 : decode cJ28_keyIterator 5 = .ok (.aload_n 0, 1) := dk_42 (dk_at dksJ28_keyIterator_0 5 rfl rfl)
theorem dJ28_keyIterator_6 : decode cJ28_keyIterator 6 = .ok (.invokevirtual 54, 3) := dk_182 0 54 (dk_at dksJ28_keyIterator_0 6 rfl rfl)
theorem dJ28_keyIterator_9 : decode cJ28_keyIterator 9 = .ok (.invokespecial 271, 3) := dk_183 1 15 (dk_at dksJ28_keyIterator_0 9 rfl rfl)
theorem dJ28_keyIterator_12 : decode cJ28_keyIterator 12 = .ok (.areturn, 1) := dk_176 (dk_at dksJ28_keyIterator_0 12 rfl rfl)
abbrev cJ28_size : ByteArray := prog_93_method_5_code
theorem dJ28_size_0 : decode cJ28_size 0 = .ok (.aload_n 0, 1) := by decide +kernel
theorem dJ28_size_1 : decode cJ28_size 1 = .ok (.getfield 7, 3) := by decide +kernel
theorem dJ28_size_4 : decode cJ28_size 4 = .ok (.ireturn, 1) := by decide +kernel
abbrev cJ28_init : ByteArray := prog_93_method_1_code
def dkwJ28_init_0 : List UInt8 := [42, 183, 0, 1, 42, 3, 181, 0, 7, 42, 3, 181, 0, 13, 42, 1, 181, 0, 16, 177]
abbrev dktJ28_init_0 : List UInt8 := dkwJ28_init_0 ++ []
theorem dksJ28_init_0 : cJ28_init.data.toList.drop 0 = dktJ28_init_0 := by decide +kernel
theorem dJ28_init_0 : decode cJ28_init 0 = .ok (.aload_n 0, 1) := dk_42 (dk_at dksJ28_init_0 0 rfl rfl)
theorem dJ28_init_1 : decode cJ28_init 1 = .ok (.invokespecial 1, 3) := dk_183 0 1 (dk_at dksJ28_init_0 1 rfl rfl)
theorem dJ28_init_4 : decode cJ28_init 4 = .ok (.aload_n 0, 1) := dk_42 (dk_at dksJ28_init_0 4 rfl rfl)
theorem dJ28_init_5 : decode cJ28_init 5 = .ok (.iconst 0, 1) := dk_3 (dk_at dksJ28_init_0 5 rfl rfl)
theorem dJ28_init_6 : decode cJ28_init 6 = .ok (.putfield 7, 3) := dk_181 0 7 (dk_at dksJ28_init_0 6 rfl rfl)
theorem dJ28_init_9 : decode cJ28_init 9 = .ok (.aload_n 0, 1) := dk_42 (dk_at dksJ28_init_0 9 rfl rfl)
theorem dJ28_init_10 : decode cJ28_init 10 = .ok (.iconst 0, 1) := dk_3 (dk_at dksJ28_init_0 10 rfl rfl)
theorem dJ28_init_11 : decode cJ28_init 11 = .ok (.putfield 13, 3) := dk_181 0 13 (dk_at dksJ28_init_0 11 rfl rfl)
theorem dJ28_init_14 : decode cJ28_init 14 = .ok (.aload_n 0, 1) := dk_42 (dk_at dksJ28_init_0 14 rfl rfl)
theorem dJ28_init_15 : decode cJ28_init 15 = .ok (.aconst_null, 1) := dk_1 (dk_at dksJ28_init_0 15 rfl rfl)
theorem dJ28_init_16 : decode cJ28_init 16 = .ok (.putfield 16, 3) := dk_181 0 16 (dk_at dksJ28_init_0 16 rfl rfl)
theorem dJ28_init_19 : decode cJ28_init 19 = .ok (.return_, 1) := dk_177 (dk_at dksJ28_init_0 19 rfl rfl)
abbrev cJ28_keySet : ByteArray := prog_93_method_49_code
theorem dJ28_keySet_0 : decode cJ28_keySet 0 = .ok (.aload_n 0, 1) := by decide +kernel
theorem dJ28_keySet_1 : decode cJ28_keySet 1 = .ok (.invokevirtual 219, 3) := by decide +kernel
theorem dJ28_keySet_4 : decode cJ28_keySet 4 = .ok (.areturn, 1) := by decide +kernel
abbrev cJ28_navigableKeySet : ByteArray := prog_93_method_50_code
def dkwJ28_navigableKeySet_1 : List UInt8 := [181, 0, 191, 176]
abbrev dktJ28_navigableKeySet_1 : List UInt8 := dkwJ28_navigableKeySet_1 ++ []
def dkwJ28_navigableKeySet_0 : List UInt8 := [42, 180, 0, 191, 76, 43, 198, 0, 7, 43, 167, 0, 16, 42, 187, 0, 222, 89, 42, 183, 0, 224, 90]
abbrev dktJ28_navigableKeySet_0 : List UInt8 := dkwJ28_navigableKeySet_0 ++ dktJ28_navigableKeySet_1
theorem dksJ28_navigableKeySet_0 : cJ28_navigableKeySet.data.toList.drop 0 = dktJ28_navigableKeySet_0 := by decide +kernel
theorem dksJ28_navigableKeySet_1 : cJ28_navigableKeySet.data.toList.drop 23 = dktJ28_navigableKeySet_1 := dk_seg dksJ28_navigableKeySet_0 23 rfl rfl
theorem dJ28_navigableKeySet_0 : decode cJ28_navigableKeySet 0 = .ok (.aload_n 0, 1) := dk_42 (dk_at dksJ28_navigableKeySet_0 0 rfl rfl)
theorem dJ28_navigableKeySet_1 : decode cJ28_navigableKeySet 1 = .ok (.getfield 191, 3) := dk_180 0 191 (dk_at dksJ28_navigableKeySet_0 1 rfl rfl)
theorem dJ28_navigableKeySet_4 : decode cJ28_navigableKeySet 4 = .ok (.astore_n 1, 1) := dk_76 (dk_at dksJ28_navigableKeySet_0 4 rfl rfl)
theorem dJ28_navigableKeySet_5 : decode cJ28_navigableKeySet 5 = .ok (.aload_n 1, 1) := dk_43 (dk_at dksJ28_navigableKeySet_0 5 rfl rfl)
theorem dJ28_navigableKeySet_6 : decode cJ28_navigableKeySet 6 = .ok (.ifnull 7, 3) := dk_198 0 7 (dk_at dksJ28_navigableKeySet_0 6 rfl rfl)
theorem dJ28_navigableKeySet_9 : decode cJ28_navigableKeySet 9 = .ok (.aload_n 1, 1) := dk_43 (dk_at dksJ28_navigableKeySet_0 9 rfl rfl)
theorem dJ28_navigableKeySet_10 : decode cJ28_navigableKeySet 10 = .ok (.goto 16, 3) := dk_167 0 16 (dk_at dksJ28_navigableKeySet_0 10 rfl rfl)
theorem dJ28_navigableKeySet_13 : decode cJ28_navigableKeySet 13 = .ok (.aload_n 0, 1) := dk_42 (dk_at dksJ28_navigableKeySet_0 13 rfl rfl)
theorem dJ28_navigableKeySet_14 : decode cJ28_navigableKeySet 14 = .ok (.new 222, 3) := dk_187 0 222 (dk_at dksJ28_navigableKeySet_0 14 rfl rfl)
theorem dJ28_navigableKeySet_17 : decode cJ28_navigableKeySet 17 = .ok (.dup, 1) := dk_89 (dk_at dksJ28_navigableKeySet_0 17 rfl rfl)
theorem dJ28_navigableKeySet_18 : decode cJ28_navigableKeySet 18 = .ok (.aload_n 0, 1) := dk_42 (dk_at dksJ28_navigableKeySet_0 18 rfl rfl)
theorem dJ28_navigableKeySet_19 : decode cJ28_navigableKeySet 19 = .ok (.invokespecial 224, 3) := dk_183 0 224 (dk_at dksJ28_navigableKeySet_0 19 rfl rfl)
theorem dJ28_navigableKeySet_22 : decode cJ28_navigableKeySet 22 = .ok (.dup_x1, 1) := dk_90 (dk_at dksJ28_navigableKeySet_0 22 rfl rfl)
theorem dJ28_navigableKeySet_23 : decode cJ28_navigableKeySet 23 = .ok (.putfield 191, 3) := dk_181 0 191 (dk_at dksJ28_navigableKeySet_1 0 rfl rfl)
theorem dJ28_navigableKeySet_26 : decode cJ28_navigableKeySet 26 = .ok (.areturn, 1) := dk_176 (dk_at dksJ28_navigableKeySet_1 3 rfl rfl)
abbrev cJ28_get : ByteArray := prog_93_method_8_code
def dkwJ28_get_0 : List UInt8 := [42, 43, 182, 0, 50, 77, 44, 199, 0, 7, 1, 167, 0, 7, 44, 180, 0, 58, 176]
abbrev dktJ28_get_0 : List UInt8 := dkwJ28_get_0 ++ []
theorem dksJ28_get_0 : cJ28_get.data.toList.drop 0 = dktJ28_get_0 := by decide +kernel
theorem dJ28_get_0 : decode cJ28_get 0 = .ok (.aload_n 0, 1) := dk_42 (dk_at dksJ28_get_0 0 rfl rfl)
theorem dJ28_get_1 : decode cJ28_get 1 = .ok (.aload_n 1, 1) := dk_43 (dk_at dksJ28_get_0 1 rfl rfl)
theorem dJ28_get_2 : decode cJ28_get 2 = .ok (.invokevirtual 50, 3) := dk_182 0 50 (dk_at dksJ28_get_0 2 rfl rfl)
theorem dJ28_get_5 : decode cJ28_get 5 = .ok (.astore_n 2, 1) := dk_77 (dk_at dksJ28_get_0 5 rfl rfl)
theorem dJ28_get_6 : decode cJ28_get 6 = .ok (.aload_n 2, 1) := dk_44 (dk_at dksJ28_get_0 6 rfl rfl)
theorem dJ28_get_7 : decode cJ28_get 7 = .ok (.ifnonnull 7, 3) := dk_199 0 7 (dk_at dksJ28_get_0 7 rfl rfl)
theorem dJ28_get_10 : decode cJ28_get 10 = .ok (.aconst_null, 1) := dk_1 (dk_at dksJ28_get_0 10 rfl rfl)
theorem dJ28_get_11 : decode cJ28_get 11 = .ok (.goto 7, 3) := dk_167 0 7 (dk_at dksJ28_get_0 11 rfl rfl)
theorem dJ28_get_14 : decode cJ28_get 14 = .ok (.aload_n 2, 1) := dk_44 (dk_at dksJ28_get_0 14 rfl rfl)
theorem dJ28_get_15 : decode cJ28_get 15 = .ok (.getfield 58, 3) := dk_180 0 58 (dk_at dksJ28_get_0 15 rfl rfl)
theorem dJ28_get_18 : decode cJ28_get 18 = .ok (.areturn, 1) := dk_176 (dk_at dksJ28_get_0 18 rfl rfl)
abbrev cJ28_getEntry : ByteArray := prog_93_method_15_code
def dkwJ28_getEntry_3 : List UInt8 := [45, 176, 167, 255, 212, 1, 176]
abbrev dktJ28_getEntry_3 : List UInt8 := dkwJ28_getEntry_3 ++ []
def dkwJ28_getEntry_2 : List UInt8 := [156, 0, 11, 45, 180, 0, 111, 78, 167, 0, 18, 21, 4, 158, 0, 11, 45, 180, 0, 114, 78, 167, 0, 5]
abbrev dktJ28_getEntry_2 : List UInt8 := dkwJ28_getEntry_2 ++ dktJ28_getEntry_3
def dkwJ28_getEntry_1 : List UInt8 := [180, 0, 101, 78, 45, 198, 0, 46, 44, 45, 180, 0, 105, 185, 0, 107, 2, 0, 54, 4, 21, 4]
abbrev dktJ28_getEntry_1 : List UInt8 := dkwJ28_getEntry_1 ++ dktJ28_getEntry_2
def dkwJ28_getEntry_0 : List UInt8 := [42, 180, 0, 16, 198, 0, 9, 42, 43, 182, 0, 92, 176, 43, 184, 0, 95, 87, 43, 192, 0, 99, 77, 42]
abbrev dktJ28_getEntry_0 : List UInt8 := dkwJ28_getEntry_0 ++ dktJ28_getEntry_1
theorem dksJ28_getEntry_0 : cJ28_getEntry.data.toList.drop 0 = dktJ28_getEntry_0 := by decide +kernel
theorem dksJ28_getEntry_1 : cJ28_getEntry.data.toList.drop 24 = dktJ28_getEntry_1 := dk_seg dksJ28_getEntry_0 24 rfl rfl
theorem dksJ28_getEntry_2 : cJ28_getEntry.data.toList.drop 46 = dktJ28_getEntry_2 := dk_seg dksJ28_getEntry_1 22 rfl rfl
theorem dksJ28_getEntry_3 : cJ28_getEntry.data.toList.drop 70 = dktJ28_getEntry_3 := dk_seg dksJ28_getEntry_2 24 rfl rfl
theorem dJ28_getEntry_0 : decode cJ28_getEntry 0 = .ok (.aload_n 0, 1) := dk_42 (dk_at dksJ28_getEntry_0 0 rfl rfl)
theorem dJ28_getEntry_1 : decode cJ28_getEntry 1 = .ok (.getfield 16, 3) := dk_180 0 16 (dk_at dksJ28_getEntry_0 1 rfl rfl)
theorem dJ28_getEntry_4 : decode cJ28_getEntry 4 = .ok (.ifnull 9, 3) := dk_198 0 9 (dk_at dksJ28_getEntry_0 4 rfl rfl)
theorem dJ28_getEntry_7 : decode cJ28_getEntry 7 = .ok (.aload_n 0, 1) := dk_42 (dk_at dksJ28_getEntry_0 7 rfl rfl)
theorem dJ28_getEntry_8 : decode cJ28_getEntry 8 = .ok (.aload_n 1, 1) := dk_43 (dk_at dksJ28_getEntry_0 8 rfl rfl)
theorem dJ28_getEntry_9 : decode cJ28_getEntry 9 = .ok (.invokevirtual 92, 3) := dk_182 0 92 (dk_at dksJ28_getEntry_0 9 rfl rfl)
theorem dJ28_getEntry_12 : decode cJ28_getEntry 12 = .ok (.areturn, 1) := dk_176 (dk_at dksJ28_getEntry_0 12 rfl rfl)
theorem dJ28_getEntry_13 : decode cJ28_getEntry 13 = .ok (.aload_n 1, 1) := dk_43 (dk_at dksJ28_getEntry_0 13 rfl rfl)
theorem dJ28_getEntry_14 : decode cJ28_getEntry 14 = .ok (.invokestatic 95, 3) := dk_184 0 95 (dk_at dksJ28_getEntry_0 14 rfl rfl)
theorem dJ28_getEntry_17 : decode cJ28_getEntry 17 = .ok (.pop, 1) := dk_87 (dk_at dksJ28_getEntry_0 17 rfl rfl)
theorem dJ28_getEntry_18 : decode cJ28_getEntry 18 = .ok (.aload_n 1, 1) := dk_43 (dk_at dksJ28_getEntry_0 18 rfl rfl)
theorem dJ28_getEntry_19 : decode cJ28_getEntry 19 = .ok (.checkcast 99, 3) := dk_192 0 99 (dk_at dksJ28_getEntry_0 19 rfl rfl)
theorem dJ28_getEntry_22 : decode cJ28_getEntry 22 = .ok (.astore_n 2, 1) := dk_77 (dk_at dksJ28_getEntry_0 22 rfl rfl)
theorem dJ28_getEntry_23 : decode cJ28_getEntry 23 = .ok (.aload_n 0, 1) := dk_42 (dk_at dksJ28_getEntry_0 23 rfl rfl)
theorem dJ28_getEntry_24 : decode cJ28_getEntry 24 = .ok (.getfield 101, 3) := dk_180 0 101 (dk_at dksJ28_getEntry_1 0 rfl rfl)
theorem dJ28_getEntry_27 : decode cJ28_getEntry 27 = .ok (.astore_n 3, 1) := dk_78 (dk_at dksJ28_getEntry_1 3 rfl rfl)
theorem dJ28_getEntry_28 : decode cJ28_getEntry 28 = .ok (.aload_n 3, 1) := dk_45 (dk_at dksJ28_getEntry_1 4 rfl rfl)
theorem dJ28_getEntry_29 : decode cJ28_getEntry 29 = .ok (.ifnull 46, 3) := dk_198 0 46 (dk_at dksJ28_getEntry_1 5 rfl rfl)
theorem dJ28_getEntry_32 : decode cJ28_getEntry 32 = .ok (.aload_n 2, 1) := dk_44 (dk_at dksJ28_getEntry_1 8 rfl rfl)
theorem dJ28_getEntry_33 : decode cJ28_getEntry 33 = .ok (.aload_n 3, 1) := dk_45 (dk_at dksJ28_getEntry_1 9 rfl rfl)
theorem dJ28_getEntry_34 : decode cJ28_getEntry 34 = .ok (.getfield 105, 3) := dk_180 0 105 (dk_at dksJ28_getEntry_1 10 rfl rfl)
theorem dJ28_getEntry_37 : decode cJ28_getEntry 37 = .ok (.invokeinterface 107 2, 5) := by decide +kernel
theorem dJ28_getEntry_42 : decode cJ28_getEntry 42 = .ok (.istore 4, 2) := dk_54 4 (dk_at dksJ28_getEntry_1 18 rfl rfl)
theorem dJ28_getEntry_44 : decode cJ28_getEntry 44 = .ok (.iload 4, 2) := dk_21 4 (dk_at dksJ28_getEntry_1 20 rfl rfl)
theorem dJ28_getEntry_46 : decode cJ28_getEntry 46 = .ok (.ifCond .ge 11, 3) := dk_156 0 11 (dk_at dksJ28_getEntry_2 0 rfl rfl)
theorem dJ28_getEntry_49 : decode cJ28_getEntry 49 = .ok (.aload_n 3, 1) := dk_45 (dk_at dksJ28_getEntry_2 3 rfl rfl)
theorem dJ28_getEntry_50 : decode cJ28_getEntry 50 = .ok (.getfield 111, 3) := dk_180 0 111 (dk_at dksJ28_getEntry_2 4 rfl rfl)
theorem dJ28_getEntry_53 : decode cJ28_getEntry 53 = .ok (.astore_n 3, 1) := dk_78 (dk_at dksJ28_getEntry_2 7 rfl rfl)
theorem dJ28_getEntry_54 : decode cJ28_getEntry 54 = .ok (.goto 18, 3) := dk_167 0 18 (dk_at dksJ28_getEntry_2 8 rfl rfl)
theorem dJ28_getEntry_57 : decode cJ28_getEntry 57 = .ok (.iload 4, 2) := dk_21 4 (dk_at dksJ28_getEntry_2 11 rfl rfl)
theorem dJ28_getEntry_59 : decode cJ28_getEntry 59 = .ok (.ifCond .le 11, 3) := dk_158 0 11 (dk_at dksJ28_getEntry_2 13 rfl rfl)
theorem dJ28_getEntry_62 : decode cJ28_getEntry 62 = .ok (.aload_n 3, 1) := dk_45 (dk_at dksJ28_getEntry_2 16 rfl rfl)
theorem dJ28_getEntry_63 : decode cJ28_getEntry 63 = .ok (.getfield 114, 3) := dk_180 0 114 (dk_at dksJ28_getEntry_2 17 rfl rfl)
theorem dJ28_getEntry_66 : decode cJ28_getEntry 66 = .ok (.astore_n 3, 1) := dk_78 (dk_at dksJ28_getEntry_2 20 rfl rfl)
theorem dJ28_getEntry_67 : decode cJ28_getEntry 67 = .ok (.goto 5, 3) := dk_167 0 5 (dk_at dksJ28_getEntry_2 21 rfl rfl)
theorem dJ28_getEntry_70 : decode cJ28_getEntry 70 = .ok (.aload_n 3, 1) := dk_45 (dk_at dksJ28_getEntry_3 0 rfl rfl)
theorem dJ28_getEntry_71 : decode cJ28_getEntry 71 = .ok (.areturn, 1) := dk_176 (dk_at dksJ28_getEntry_3 1 rfl rfl)
theorem dJ28_getEntry_72 : decode cJ28_getEntry 72 = .ok (.goto (-44), 3) := dk_167 255 212 (dk_at dksJ28_getEntry_3 2 rfl rfl)
theorem dJ28_getEntry_75 : decode cJ28_getEntry 75 = .ok (.aconst_null, 1) := dk_1 (dk_at dksJ28_getEntry_3 5 rfl rfl)
theorem dJ28_getEntry_76 : decode cJ28_getEntry 76 = .ok (.areturn, 1) := dk_176 (dk_at dksJ28_getEntry_3 6 rfl rfl)
abbrev cJ28_getEntryUsingComparator : ByteArray := prog_93_method_16_code
def dkwJ28_getEntryUsingComparator_3 : List UInt8 := [1, 176]
abbrev dktJ28_getEntryUsingComparator_3 : List UInt8 := dkwJ28_getEntryUsingComparator_3 ++ []
def dkwJ28_getEntryUsingComparator_2 : List UInt8 := [167, 0, 21, 21, 5, 158, 0, 13, 25, 4, 180, 0, 114, 58, 4, 167, 0, 6, 25, 4, 176, 167, 255, 204]
abbrev dktJ28_getEntryUsingComparator_2 : List UInt8 := dkwJ28_getEntryUsingComparator_2 ++ dktJ28_getEntryUsingComparator_3
def dkwJ28_getEntryUsingComparator_1 : List UInt8 := [25, 4, 180, 0, 105, 185, 0, 117, 3, 0, 54, 5, 21, 5, 156, 0, 13, 25, 4, 180, 0, 111, 58, 4]
abbrev dktJ28_getEntryUsingComparator_1 : List UInt8 := dkwJ28_getEntryUsingComparator_1 ++ dktJ28_getEntryUsingComparator_2
def dkwJ28_getEntryUsingComparator_0 : List UInt8 := [43, 77, 42, 180, 0, 16, 78, 45, 198, 0, 64, 42, 180, 0, 101, 58, 4, 25, 4, 198, 0, 53, 45, 44]
abbrev dktJ28_getEntryUsingComparator_0 : List UInt8 := dkwJ28_getEntryUsingComparator_0 ++ dktJ28_getEntryUsingComparator_1
theorem dksJ28_getEntryUsingComparator_0 : cJ28_getEntryUsingComparator.data.toList.drop 0 = dktJ28_getEntryUsingComparator_0 := by decide +kernel
theorem dksJ28_getEntryUsingComparator_1 : cJ28_getEntryUsingComparator.data.toList.drop 24 = dktJ28_getEntryUsingComparator_1 := dk_seg dksJ28_getEntryUsingComparator_0 24 rfl rfl
theorem dksJ28_getEntryUsingComparator_2 : cJ28_getEntryUsingComparator.data.toList.drop 48 = dktJ28_getEntryUsingComparator_2 := dk_seg dksJ28_getEntryUsingComparator_1 24 rfl rfl
theorem dksJ28_getEntryUsingComparator_3 : cJ28_getEntryUsingComparator.data.toList.drop 72 = dktJ28_getEntryUsingComparator_3 := dk_seg dksJ28_getEntryUsingComparator_2 24 rfl rfl
theorem dJ28_getEntryUsingComparator_0 : decode cJ28_getEntryUsingComparator 0 = .ok (.aload_n 1, 1) := dk_43 (dk_at dksJ28_getEntryUsingComparator_0 0 rfl rfl)
theorem dJ28_getEntryUsingComparator_1 : decode cJ28_getEntryUsingComparator 1 = .ok (.astore_n 2, 1) := dk_77 (dk_at dksJ28_getEntryUsingComparator_0 1 rfl rfl)
theorem dJ28_getEntryUsingComparator_2 : decode cJ28_getEntryUsingComparator 2 = .ok (.aload_n 0, 1) := dk_42 (dk_at dksJ28_getEntryUsingComparator_0 2 rfl rfl)
theorem dJ28_getEntryUsingComparator_3 : decode cJ28_getEntryUsingComparator 3 = .ok (.getfield 16, 3) := dk_180 0 16 (dk_at dksJ28_getEntryUsingComparator_0 3 rfl rfl)
theorem dJ28_getEntryUsingComparator_6 : decode cJ28_getEntryUsingComparator 6 = .ok (.astore_n 3, 1) := dk_78 (dk_at dksJ28_getEntryUsingComparator_0 6 rfl rfl)
theorem dJ28_getEntryUsingComparator_7 : decode cJ28_getEntryUsingComparator 7 = .ok (.aload_n 3, 1) := dk_45 (dk_at dksJ28_getEntryUsingComparator_0 7 rfl rfl)
theorem dJ28_getEntryUsingComparator_8 : decode cJ28_getEntryUsingComparator 8 = .ok (.ifnull 64, 3) := dk_198 0 64 (dk_at dksJ28_getEntryUsingComparator_0 8 rfl rfl)
theorem dJ28_getEntryUsingComparator_11 : decode cJ28_getEntryUsingComparator 11 = .ok (.aload_n 0, 1) := dk_42 (dk_at dksJ28_getEntryUsingComparator_0 11 rfl rfl)
theorem dJ28_getEntryUsingComparator_12 : decode cJ28_getEntryUsingComparator 12 = .ok (.getfield 101, 3) := dk_180 0 101 (dk_at dksJ28_getEntryUsingComparator_0 12 rfl rfl)
theorem dJ28_getEntryUsingComparator_15 : decode cJ28_getEntryUsingComparator 15 = .ok (.astore 4, 2) := dk_58 4 (dk_at dksJ28_getEntryUsingComparator_0 15 rfl rfl)
theorem dJ28_getEntryUsingComparator_17 : decode cJ28_getEntryUsingComparator 17 = .ok (.aload 4, 2) := dk_25 4 (dk_at dksJ28_getEntryUsingComparator_0 17 rfl rfl)
theorem dJ28_getEntryUsingComparator_19 : decode cJ28_getEntryUsingComparator 19 = .ok (.ifnull 53, 3) := dk_198 0 53 (dk_at dksJ28_getEntryUsingComparator_0 19 rfl rfl)
theorem dJ28_getEntryUsingComparator_22 : decode cJ28_getEntryUsingComparator 22 = .ok (.aload_n 3, 1) := dk_45 (dk_at dksJ28_getEntryUsingComparator_0 22 rfl rfl)
theorem dJ28_getEntryUsingComparator_23 : decode cJ28_getEntryUsingComparator 23 = .ok (.aload_n 2, 1) := dk_44 (dk_at dksJ28_getEntryUsingComparator_0 23 rfl rfl)
theorem dJ28_getEntryUsingComparator_24 : decode cJ28_getEntryUsingComparator 24 = .ok (.aload 4, 2) := dk_25 4 (dk_at dksJ28_getEntryUsingComparator_1 0 rfl rfl)
theorem dJ28_getEntryUsingComparator_26 : decode cJ28_getEntryUsingComparator 26 = .ok (.getfield 105, 3) := dk_180 0 105 (dk_at dksJ28_getEntryUsingComparator_1 2 rfl rfl)
theorem dJ28_getEntryUsingComparator_29 : decode cJ28_getEntryUsingComparator 29 = .ok (.invokeinterface 117 3, 5) := by decide +kernel
theorem dJ28_getEntryUsingComparator_72 : decode cJ28_getEntryUsingComparator 72 = .ok (.aconst_null, 1) := dk_1 (dk_at dksJ28_getEntryUsingComparator_3 0 rfl rfl)
theorem dJ28_getEntryUsingComparator_73 : decode cJ28_getEntryUsingComparator 73 = .ok (.areturn, 1) := dk_176 (dk_at dksJ28_getEntryUsingComparator_3 1 rfl rfl)
abbrev cJ28_put : ByteArray := prog_93_method_21_code
def dkwJ28_put_0 : List UInt8 := [42, 43, 44, 4, 182, 0, 127, 176]
abbrev dktJ28_put_0 : List UInt8 := dkwJ28_put_0 ++ []
theorem dksJ28_put_0 : cJ28_put.data.toList.drop 0 = dktJ28_put_0 := by decide +kernel
theorem dJ28_put_0 : decode cJ28_put 0 = .ok (.aload_n 0, 1) := dk_42 (dk_at dksJ28_put_0 0 rfl rfl)
theorem dJ28_put_1 : decode cJ28_put 1 = .ok (.aload_n 1, 1) := dk_43 (dk_at dksJ28_put_0 1 rfl rfl)
theorem dJ28_put_2 : decode cJ28_put 2 = .ok (.aload_n 2, 1) := dk_44 (dk_at dksJ28_put_0 2 rfl rfl)
theorem dJ28_put_3 : decode cJ28_put 3 = .ok (.iconst 1, 1) := dk_4 (dk_at dksJ28_put_0 3 rfl rfl)
theorem dJ28_put_4 : decode cJ28_put 4 = .ok (.invokevirtual 127, 3) := dk_182 0 127 (dk_at dksJ28_put_0 4 rfl rfl)
theorem dJ28_put_7 : decode cJ28_put 7 = .ok (.areturn, 1) := dk_176 (dk_at dksJ28_put_0 7 rfl rfl)
abbrev cJ28_put_2 : ByteArray := prog_93_method_31_code
def dkwJ28_put_2_9 : List UInt8 := [4, 167, 0, 4, 3, 182, 0, 139, 1, 176]
abbrev dktJ28_put_2_9 : List UInt8 := dkwJ28_put_2_9 ++ []
def dkwJ28_put_2_8 : List UInt8 := [25, 4, 44, 181, 0, 58, 25, 9, 176, 25, 4, 199, 255, 181, 42, 43, 44, 25, 6, 21, 5, 156, 0, 7]
abbrev dktJ28_put_2_8 : List UInt8 := dkwJ28_put_2_8 ++ dktJ28_put_2_9
def dkwJ28_put_2_7 : List UInt8 := [180, 0, 114, 58, 4, 167, 0, 28, 25, 4, 180, 0, 58, 58, 9, 29, 154, 0, 8, 25, 9, 199, 0, 9]
abbrev dktJ28_put_2_7 : List UInt8 := dkwJ28_put_2_7 ++ dktJ28_put_2_8
def dkwJ28_put_2_6 : List UInt8 := [21, 5, 156, 0, 13, 25, 4, 180, 0, 111, 58, 4, 167, 0, 43, 21, 5, 158, 0, 13, 25, 4]
abbrev dktJ28_put_2_6 : List UInt8 := dkwJ28_put_2_6 ++ dktJ28_put_2_7
def dkwJ28_put_2_5 : List UInt8 := [192, 0, 99, 58, 8, 25, 4, 58, 6, 25, 8, 25, 4, 180, 0, 105, 185, 0, 107, 2, 0, 54, 5]
abbrev dktJ28_put_2_5 : List UInt8 := dkwJ28_put_2_5 ++ dktJ28_put_2_6
def dkwJ28_put_2_4 : List UInt8 := [25, 4, 44, 181, 0, 58, 25, 8, 176, 25, 4, 199, 255, 180, 167, 0, 92, 43, 184, 0, 95, 87, 43]
abbrev dktJ28_put_2_4 : List UInt8 := dkwJ28_put_2_4 ++ dktJ28_put_2_5
def dkwJ28_put_2_3 : List UInt8 := [180, 0, 114, 58, 4, 167, 0, 28, 25, 4, 180, 0, 58, 58, 8, 29, 154, 0, 8, 25, 8, 199, 0, 9]
abbrev dktJ28_put_2_3 : List UInt8 := dkwJ28_put_2_3 ++ dktJ28_put_2_4
def dkwJ28_put_2_2 : List UInt8 := [54, 5, 21, 5, 156, 0, 13, 25, 4, 180, 0, 111, 58, 4, 167, 0, 43, 21, 5, 158, 0, 13, 25, 4]
abbrev dktJ28_put_2_2 : List UInt8 := dkwJ28_put_2_2 ++ dktJ28_put_2_3
def dkwJ28_put_2_1 : List UInt8 := [58, 7, 25, 7, 198, 0, 85, 25, 4, 58, 6, 25, 7, 43, 25, 4, 180, 0, 105, 185, 0, 117, 3, 0]
abbrev dktJ28_put_2_1 : List UInt8 := dkwJ28_put_2_1 ++ dktJ28_put_2_2
def dkwJ28_put_2_0 : List UInt8 := [42, 180, 0, 101, 58, 4, 25, 4, 199, 0, 11, 42, 43, 44, 182, 0, 135, 1, 176, 42, 180, 0, 16]
abbrev dktJ28_put_2_0 : List UInt8 := dkwJ28_put_2_0 ++ dktJ28_put_2_1
theorem dksJ28_put_2_0 : cJ28_put_2.data.toList.drop 0 = dktJ28_put_2_0 := by decide +kernel
theorem dksJ28_put_2_1 : cJ28_put_2.data.toList.drop 23 = dktJ28_put_2_1 := dk_seg dksJ28_put_2_0 23 rfl rfl
theorem dksJ28_put_2_2 : cJ28_put_2.data.toList.drop 47 = dktJ28_put_2_2 := dk_seg dksJ28_put_2_1 24 rfl rfl
theorem dksJ28_put_2_3 : cJ28_put_2.data.toList.drop 71 = dktJ28_put_2_3 := dk_seg dksJ28_put_2_2 24 rfl rfl
theorem dksJ28_put_2_4 : cJ28_put_2.data.toList.drop 95 = dktJ28_put_2_4 := dk_seg dksJ28_put_2_3 24 rfl rfl
theorem dksJ28_put_2_5 : cJ28_put_2.data.toList.drop 118 = dktJ28_put_2_5 := dk_seg dksJ28_put_2_4 23 rfl rfl
theorem dksJ28_put_2_6 : cJ28_put_2.data.toList.drop 141 = dktJ28_put_2_6 := dk_seg dksJ28_put_2_5 23 rfl rfl
theorem dksJ28_put_2_7 : cJ28_put_2.data.toList.drop 163 = dktJ28_put_2_7 := dk_seg dksJ28_put_2_6 22 rfl rfl
theorem dksJ28_put_2_8 : cJ28_put_2.data.toList.drop 187 = dktJ28_put_2_8 := dk_seg dksJ28_put_2_7 24 rfl rfl
theorem dksJ28_put_2_9 : cJ28_put_2.data.toList.drop 211 = dktJ28_put_2_9 := dk_seg dksJ28_put_2_8 24 rfl rfl
theorem dJ28_put_2_0 : decode cJ28_put_2 0 = .ok (.aload_n 0, 1) := dk_42 (dk_at dksJ28_put_2_0 0 rfl rfl)
theorem dJ28_put_2_1 : decode cJ28_put_2 1 = .ok (.getfield 101, 3) := dk_180 0 101 (dk_at dksJ28_put_2_0 1 rfl rfl)
theorem dJ28_put_2_4 : decode cJ28_put_2 4 = .ok (.astore 4, 2) := dk_58 4 (dk_at dksJ28_put_2_0 4 rfl rfl)
theorem dJ28_put_2_6 : decode cJ28_put_2 6 = .ok (.aload 4, 2) := dk_25 4 (dk_at dksJ28_put_2_0 6 rfl rfl)
theorem dJ28_put_2_8 : decode cJ28_put_2 8 = .ok (.ifnonnull 11, 3) := dk_199 0 11 (dk_at dksJ28_put_2_0 8 rfl rfl)
theorem dJ28_put_2_11 : decode cJ28_put_2 11 = .ok (.aload_n 0, 1) := dk_42 (dk_at dksJ28_put_2_0 11 rfl rfl)
theorem dJ28_put_2_12 : decode cJ28_put_2 12 = .ok (.aload_n 1, 1) := dk_43 (dk_at dksJ28_put_2_0 12 rfl rfl)
theorem dJ28_put_2_13 : decode cJ28_put_2 13 = .ok (.aload_n 2, 1) := dk_44 (dk_at dksJ28_put_2_0 13 rfl rfl)
theorem dJ28_put_2_14 : decode cJ28_put_2 14 = .ok (.invokevirtual 135, 3) := dk_182 0 135 (dk_at dksJ28_put_2_0 14 rfl rfl)
theorem dJ28_put_2_17 : decode cJ28_put_2 17 = .ok (.aconst_null, 1) := dk_1 (dk_at dksJ28_put_2_0 17 rfl rfl)
theorem dJ28_put_2_18 : decode cJ28_put_2 18 = .ok (.areturn, 1) := dk_176 (dk_at dksJ28_put_2_0 18 rfl rfl)
theorem dJ28_put_2_19 : decode cJ28_put_2 19 = .ok (.aload_n 0, 1) := dk_42 (dk_at dksJ28_put_2_0 19 rfl rfl)
theorem dJ28_put_2_20 : decode cJ28_put_2 20 = .ok (.getfield 16, 3) := dk_180 0 16 (dk_at dksJ28_put_2_0 20 rfl rfl)
theorem dJ28_put_2_23 : decode cJ28_put_2 23 = .ok (.astore 7, 2) := dk_58 7 (dk_at dksJ28_put_2_1 0 rfl rfl)
theorem dJ28_put_2_25 : decode cJ28_put_2 25 = .ok (.aload 7, 2) := dk_25 7 (dk_at dksJ28_put_2_1 2 rfl rfl)
theorem dJ28_put_2_27 : decode cJ28_put_2 27 = .ok (.ifnull 85, 3) := dk_198 0 85 (dk_at dksJ28_put_2_1 4 rfl rfl)
theorem dJ28_put_2_30 : decode cJ28_put_2 30 = .ok (.aload 4, 2) := dk_25 4 (dk_at dksJ28_put_2_1 7 rfl rfl)
theorem dJ28_put_2_32 : decode cJ28_put_2 32 = .ok (.astore 6, 2) := dk_58 6 (dk_at dksJ28_put_2_1 9 rfl rfl)
theorem dJ28_put_2_34 : decode cJ28_put_2 34 = .ok (.aload 7, 2) := dk_25 7 (dk_at dksJ28_put_2_1 11 rfl rfl)
theorem dJ28_put_2_36 : decode cJ28_put_2 36 = .ok (.aload_n 1, 1) := dk_43 (dk_at dksJ28_put_2_1 13 rfl rfl)
theorem dJ28_put_2_37 : decode cJ28_put_2 37 = .ok (.aload 4, 2) := dk_25 4 (dk_at dksJ28_put_2_1 14 rfl rfl)
theorem dJ28_put_2_39 : decode cJ28_put_2 39 = .ok (.getfield 105, 3) := dk_180 0 105 (dk_at dksJ28_put_2_1 16 rfl rfl)
theorem dJ28_put_2_42 : decode cJ28_put_2 42 = .ok (.invokeinterface 117 3, 5) := by decide +kernel
theorem dJ28_put_2_112 : decode cJ28_put_2 112 = .ok (.aload_n 1, 1) := dk_43 (dk_at dksJ28_put_2_4 17 rfl rfl)
theorem dJ28_put_2_113 : decode cJ28_put_2 113 = .ok (.invokestatic 95, 3) := dk_184 0 95 (dk_at dksJ28_put_2_4 18 rfl rfl)
theorem dJ28_put_2_116 : decode cJ28_put_2 116 = .ok (.pop, 1) := dk_87 (dk_at dksJ28_put_2_4 21 rfl rfl)
theorem dJ28_put_2_117 : decode cJ28_put_2 117 = .ok (.aload_n 1, 1) := dk_43 (dk_at dksJ28_put_2_4 22 rfl rfl)
theorem dJ28_put_2_118 : decode cJ28_put_2 118 = .ok (.checkcast 99, 3) := dk_192 0 99 (dk_at dksJ28_put_2_5 0 rfl rfl)
theorem dJ28_put_2_121 : decode cJ28_put_2 121 = .ok (.astore 8, 2) := dk_58 8 (dk_at dksJ28_put_2_5 3 rfl rfl)
theorem dJ28_put_2_123 : decode cJ28_put_2 123 = .ok (.aload 4, 2) := dk_25 4 (dk_at dksJ28_put_2_5 5 rfl rfl)
theorem dJ28_put_2_125 : decode cJ28_put_2 125 = .ok (.astore 6, 2) := dk_58 6 (dk_at dksJ28_put_2_5 7 rfl rfl)
theorem dJ28_put_2_127 : decode cJ28_put_2 127 = .ok (.aload 8, 2) := dk_25 8 (dk_at dksJ28_put_2_5 9 rfl rfl)
theorem dJ28_put_2_129 : decode cJ28_put_2 129 = .ok (.aload 4, 2) := dk_25 4 (dk_at dksJ28_put_2_5 11 rfl rfl)
theorem dJ28_put_2_131 : decode cJ28_put_2 131 = .ok (.getfield 105, 3) := dk_180 0 105 (dk_at dksJ28_put_2_5 13 rfl rfl)
theorem dJ28_put_2_134 : decode cJ28_put_2 134 = .ok (.invokeinterface 107 2, 5) := by decide +kernel
theorem dJ28_put_2_139 : decode cJ28_put_2 139 = .ok (.istore 5, 2) := dk_54 5 (dk_at dksJ28_put_2_5 21 rfl rfl)
theorem dJ28_put_2_141 : decode cJ28_put_2 141 = .ok (.iload 5, 2) := dk_21 5 (dk_at dksJ28_put_2_6 0 rfl rfl)
theorem dJ28_put_2_143 : decode cJ28_put_2 143 = .ok (.ifCond .ge 13, 3) := dk_156 0 13 (dk_at dksJ28_put_2_6 2 rfl rfl)
theorem dJ28_put_2_146 : decode cJ28_put_2 146 = .ok (.aload 4, 2) := dk_25 4 (dk_at dksJ28_put_2_6 5 rfl rfl)
theorem dJ28_put_2_148 : decode cJ28_put_2 148 = .ok (.getfield 111, 3) := dk_180 0 111 (dk_at dksJ28_put_2_6 7 rfl rfl)
theorem dJ28_put_2_151 : decode cJ28_put_2 151 = .ok (.astore 4, 2) := dk_58 4 (dk_at dksJ28_put_2_6 10 rfl rfl)
theorem dJ28_put_2_153 : decode cJ28_put_2 153 = .ok (.goto 43, 3) := dk_167 0 43 (dk_at dksJ28_put_2_6 12 rfl rfl)
theorem dJ28_put_2_156 : decode cJ28_put_2 156 = .ok (.iload 5, 2) := dk_21 5 (dk_at dksJ28_put_2_6 15 rfl rfl)
theorem dJ28_put_2_158 : decode cJ28_put_2 158 = .ok (.ifCond .le 13, 3) := dk_158 0 13 (dk_at dksJ28_put_2_6 17 rfl rfl)
theorem dJ28_put_2_161 : decode cJ28_put_2 161 = .ok (.aload 4, 2) := dk_25 4 (dk_at dksJ28_put_2_6 20 rfl rfl)
theorem dJ28_put_2_163 : decode cJ28_put_2 163 = .ok (.getfield 114, 3) := dk_180 0 114 (dk_at dksJ28_put_2_7 0 rfl rfl)
theorem dJ28_put_2_166 : decode cJ28_put_2 166 = .ok (.astore 4, 2) := dk_58 4 (dk_at dksJ28_put_2_7 3 rfl rfl)
theorem dJ28_put_2_168 : decode cJ28_put_2 168 = .ok (.goto 28, 3) := dk_167 0 28 (dk_at dksJ28_put_2_7 5 rfl rfl)
theorem dJ28_put_2_171 : decode cJ28_put_2 171 = .ok (.aload 4, 2) := dk_25 4 (dk_at dksJ28_put_2_7 8 rfl rfl)
theorem dJ28_put_2_173 : decode cJ28_put_2 173 = .ok (.getfield 58, 3) := dk_180 0 58 (dk_at dksJ28_put_2_7 10 rfl rfl)
theorem dJ28_put_2_176 : decode cJ28_put_2 176 = .ok (.astore 9, 2) := dk_58 9 (dk_at dksJ28_put_2_7 13 rfl rfl)
theorem dJ28_put_2_178 : decode cJ28_put_2 178 = .ok (.iload_n 3, 1) := dk_29 (dk_at dksJ28_put_2_7 15 rfl rfl)
theorem dJ28_put_2_179 : decode cJ28_put_2 179 = .ok (.ifCond .ne 8, 3) := dk_154 0 8 (dk_at dksJ28_put_2_7 16 rfl rfl)
theorem dJ28_put_2_182 : decode cJ28_put_2 182 = .ok (.aload 9, 2) := dk_25 9 (dk_at dksJ28_put_2_7 19 rfl rfl)
theorem dJ28_put_2_184 : decode cJ28_put_2 184 = .ok (.ifnonnull 9, 3) := dk_199 0 9 (dk_at dksJ28_put_2_7 21 rfl rfl)
theorem dJ28_put_2_187 : decode cJ28_put_2 187 = .ok (.aload 4, 2) := dk_25 4 (dk_at dksJ28_put_2_8 0 rfl rfl)
theorem dJ28_put_2_189 : decode cJ28_put_2 189 = .ok (.aload_n 2, 1) := dk_44 (dk_at dksJ28_put_2_8 2 rfl rfl)
theorem dJ28_put_2_190 : decode cJ28_put_2 190 = .ok (.putfield 58, 3) := dk_181 0 58 (dk_at dksJ28_put_2_8 3 rfl rfl)
theorem dJ28_put_2_193 : decode cJ28_put_2 193 = .ok (.aload 9, 2) := dk_25 9 (dk_at dksJ28_put_2_8 6 rfl rfl)
theorem dJ28_put_2_195 : decode cJ28_put_2 195 = .ok (.areturn, 1) := dk_176 (dk_at dksJ28_put_2_8 8 rfl rfl)
theorem dJ28_put_2_196 : decode cJ28_put_2 196 = .ok (.aload 4, 2) := dk_25 4 (dk_at dksJ28_put_2_8 9 rfl rfl)
theorem dJ28_put_2_198 : decode cJ28_put_2 198 = .ok (.ifnonnull (-75), 3) := dk_199 255 181 (dk_at dksJ28_put_2_8 11 rfl rfl)
theorem dJ28_put_2_201 : decode cJ28_put_2 201 = .ok (.aload_n 0, 1) := dk_42 (dk_at dksJ28_put_2_8 14 rfl rfl)
theorem dJ28_put_2_202 : decode cJ28_put_2 202 = .ok (.aload_n 1, 1) := dk_43 (dk_at dksJ28_put_2_8 15 rfl rfl)
theorem dJ28_put_2_203 : decode cJ28_put_2 203 = .ok (.aload_n 2, 1) := dk_44 (dk_at dksJ28_put_2_8 16 rfl rfl)
theorem dJ28_put_2_204 : decode cJ28_put_2 204 = .ok (.aload 6, 2) := dk_25 6 (dk_at dksJ28_put_2_8 17 rfl rfl)
theorem dJ28_put_2_206 : decode cJ28_put_2 206 = .ok (.iload 5, 2) := dk_21 5 (dk_at dksJ28_put_2_8 19 rfl rfl)
theorem dJ28_put_2_208 : decode cJ28_put_2 208 = .ok (.ifCond .ge 7, 3) := dk_156 0 7 (dk_at dksJ28_put_2_8 21 rfl rfl)
theorem dJ28_put_2_211 : decode cJ28_put_2 211 = .ok (.iconst 1, 1) := dk_4 (dk_at dksJ28_put_2_9 0 rfl rfl)
theorem dJ28_put_2_212 : decode cJ28_put_2 212 = .ok (.goto 4, 3) := dk_167 0 4 (dk_at dksJ28_put_2_9 1 rfl rfl)
theorem dJ28_put_2_215 : decode cJ28_put_2 215 = .ok (.iconst 0, 1) := dk_3 (dk_at dksJ28_put_2_9 4 rfl rfl)
theorem dJ28_put_2_216 : decode cJ28_put_2 216 = .ok (.invokevirtual 139, 3) := dk_182 0 139 (dk_at dksJ28_put_2_9 5 rfl rfl)
theorem dJ28_put_2_219 : decode cJ28_put_2 219 = .ok (.aconst_null, 1) := dk_1 (dk_at dksJ28_put_2_9 8 rfl rfl)
theorem dJ28_put_2_220 : decode cJ28_put_2 220 = .ok (.areturn, 1) := dk_176 (dk_at dksJ28_put_2_9 9 rfl rfl)
abbrev cJ28_addEntryToEmptyMap : ByteArray := prog_93_method_30_code
def dkwJ28_addEntryToEmptyMap_1 : List UInt8 := [181, 0, 7, 42, 89, 180, 0, 13, 4, 96, 181, 0, 13, 177]
abbrev dktJ28_addEntryToEmptyMap_1 : List UInt8 := dkwJ28_addEntryToEmptyMap_1 ++ []
def dkwJ28_addEntryToEmptyMap_0 : List UInt8 := [42, 43, 43, 182, 0, 123, 87, 42, 187, 0, 59, 89, 43, 44, 1, 183, 0, 167, 181, 0, 101, 42, 4]
abbrev dktJ28_addEntryToEmptyMap_0 : List UInt8 := dkwJ28_addEntryToEmptyMap_0 ++ dktJ28_addEntryToEmptyMap_1
theorem dksJ28_addEntryToEmptyMap_0 : cJ28_addEntryToEmptyMap.data.toList.drop 0 = dktJ28_addEntryToEmptyMap_0 := by decide +kernel
theorem dksJ28_addEntryToEmptyMap_1 : cJ28_addEntryToEmptyMap.data.toList.drop 23 = dktJ28_addEntryToEmptyMap_1 := dk_seg dksJ28_addEntryToEmptyMap_0 23 rfl rfl
theorem dJ28_addEntryToEmptyMap_0 : decode cJ28_addEntryToEmptyMap 0 = .ok (.aload_n 0, 1) := dk_42 (dk_at dksJ28_addEntryToEmptyMap_0 0 rfl rfl)
theorem dJ28_addEntryToEmptyMap_1 : decode cJ28_addEntryToEmptyMap 1 = .ok (.aload_n 1, 1) := dk_43 (dk_at dksJ28_addEntryToEmptyMap_0 1 rfl rfl)
theorem dJ28_addEntryToEmptyMap_2 : decode cJ28_addEntryToEmptyMap 2 = .ok (.aload_n 1, 1) := dk_43 (dk_at dksJ28_addEntryToEmptyMap_0 2 rfl rfl)
theorem dJ28_addEntryToEmptyMap_3 : decode cJ28_addEntryToEmptyMap 3 = .ok (.invokevirtual 123, 3) := dk_182 0 123 (dk_at dksJ28_addEntryToEmptyMap_0 3 rfl rfl)
theorem dJ28_addEntryToEmptyMap_6 : decode cJ28_addEntryToEmptyMap 6 = .ok (.pop, 1) := dk_87 (dk_at dksJ28_addEntryToEmptyMap_0 6 rfl rfl)
theorem dJ28_addEntryToEmptyMap_7 : decode cJ28_addEntryToEmptyMap 7 = .ok (.aload_n 0, 1) := dk_42 (dk_at dksJ28_addEntryToEmptyMap_0 7 rfl rfl)
theorem dJ28_addEntryToEmptyMap_8 : decode cJ28_addEntryToEmptyMap 8 = .ok (.new 59, 3) := dk_187 0 59 (dk_at dksJ28_addEntryToEmptyMap_0 8 rfl rfl)
theorem dJ28_addEntryToEmptyMap_11 : decode cJ28_addEntryToEmptyMap 11 = .ok (.dup, 1) := dk_89 (dk_at dksJ28_addEntryToEmptyMap_0 11 rfl rfl)
theorem dJ28_addEntryToEmptyMap_12 : decode cJ28_addEntryToEmptyMap 12 = .ok (.aload_n 1, 1) := dk_43 (dk_at dksJ28_addEntryToEmptyMap_0 12 rfl rfl)
theorem dJ28_addEntryToEmptyMap_13 : decode cJ28_addEntryToEmptyMap 13 = .ok (.aload_n 2, 1) := dk_44 (dk_at dksJ28_addEntryToEmptyMap_0 13 rfl rfl)
theorem dJ28_addEntryToEmptyMap_14 : decode cJ28_addEntryToEmptyMap 14 = .ok (.aconst_null, 1) := dk_1 (dk_at dksJ28_addEntryToEmptyMap_0 14 rfl rfl)
theorem dJ28_addEntryToEmptyMap_15 : decode cJ28_addEntryToEmptyMap 15 = .ok (.invokespecial 167, 3) := dk_183 0 167 (dk_at dksJ28_addEntryToEmptyMap_0 15 rfl rfl)
theorem dJ28_addEntryToEmptyMap_18 : decode cJ28_addEntryToEmptyMap 18 = .ok (.putfield 101, 3) := dk_181 0 101 (dk_at dksJ28_addEntryToEmptyMap_0 18 rfl rfl)
theorem dJ28_addEntryToEmptyMap_21 : decode cJ28_addEntryToEmptyMap 21 = .ok (.aload_n 0, 1) := dk_42 (dk_at dksJ28_addEntryToEmptyMap_0 21 rfl rfl)
theorem dJ28_addEntryToEmptyMap_22 : decode cJ28_addEntryToEmptyMap 22 = .ok (.iconst 1, 1) := dk_4 (dk_at dksJ28_addEntryToEmptyMap_0 22 rfl rfl)
theorem dJ28_addEntryToEmptyMap_23 : decode cJ28_addEntryToEmptyMap 23 = .ok (.putfield 7, 3) := dk_181 0 7 (dk_at dksJ28_addEntryToEmptyMap_1 0 rfl rfl)
theorem dJ28_addEntryToEmptyMap_26 : decode cJ28_addEntryToEmptyMap 26 = .ok (.aload_n 0, 1) := dk_42 (dk_at dksJ28_addEntryToEmptyMap_1 3 rfl rfl)
theorem dJ28_addEntryToEmptyMap_27 : decode cJ28_addEntryToEmptyMap 27 = .ok (.dup, 1) := dk_89 (dk_at dksJ28_addEntryToEmptyMap_1 4 rfl rfl)
theorem dJ28_addEntryToEmptyMap_28 : decode cJ28_addEntryToEmptyMap 28 = .ok (.getfield 13, 3) := dk_180 0 13 (dk_at dksJ28_addEntryToEmptyMap_1 5 rfl rfl)
theorem dJ28_addEntryToEmptyMap_31 : decode cJ28_addEntryToEmptyMap 31 = .ok (.iconst 1, 1) := dk_4 (dk_at dksJ28_addEntryToEmptyMap_1 8 rfl rfl)
theorem dJ28_addEntryToEmptyMap_32 : decode cJ28_addEntryToEmptyMap 32 = .ok (.iadd, 1) := dk_96 (dk_at dksJ28_addEntryToEmptyMap_1 9 rfl rfl)
theorem dJ28_addEntryToEmptyMap_33 : decode cJ28_addEntryToEmptyMap 33 = .ok (.putfield 13, 3) := dk_181 0 13 (dk_at dksJ28_addEntryToEmptyMap_1 10 rfl rfl)
theorem dJ28_addEntryToEmptyMap_36 : decode cJ28_addEntryToEmptyMap 36 = .ok (.return_, 1) := dk_177 (dk_at dksJ28_addEntryToEmptyMap_1 13 rfl rfl)
abbrev cJ28_compare : ByteArray := prog_93_method_67_code
def dkwJ28_compare_1 : List UInt8 := [43, 44, 185, 0, 117, 3, 0, 172]
abbrev dktJ28_compare_1 : List UInt8 := dkwJ28_compare_1 ++ []
def dkwJ28_compare_0 : List UInt8 := [42, 180, 0, 16, 199, 0, 16, 43, 192, 0, 99, 44, 185, 0, 107, 2, 0, 167, 0, 14, 42, 180, 0, 16]
abbrev dktJ28_compare_0 : List UInt8 := dkwJ28_compare_0 ++ dktJ28_compare_1
theorem dksJ28_compare_0 : cJ28_compare.data.toList.drop 0 = dktJ28_compare_0 := by decide +kernel
theorem dksJ28_compare_1 : cJ28_compare.data.toList.drop 24 = dktJ28_compare_1 := dk_seg dksJ28_compare_0 24 rfl rfl
theorem dJ28_compare_0 : decode cJ28_compare 0 = .ok (.aload_n 0, 1) := dk_42 (dk_at dksJ28_compare_0 0 rfl rfl)
theorem dJ28_compare_1 : decode cJ28_compare 1 = .ok (.getfield 16, 3) := dk_180 0 16 (dk_at dksJ28_compare_0 1 rfl rfl)
theorem dJ28_compare_4 : decode cJ28_compare 4 = .ok (.ifnonnull 16, 3) := dk_199 0 16 (dk_at dksJ28_compare_0 4 rfl rfl)
theorem dJ28_compare_7 : decode cJ28_compare 7 = .ok (.aload_n 1, 1) := dk_43 (dk_at dksJ28_compare_0 7 rfl rfl)
theorem dJ28_compare_8 : decode cJ28_compare 8 = .ok (.checkcast 99, 3) := dk_192 0 99 (dk_at dksJ28_compare_0 8 rfl rfl)
theorem dJ28_compare_11 : decode cJ28_compare 11 = .ok (.aload_n 2, 1) := dk_44 (dk_at dksJ28_compare_0 11 rfl rfl)
theorem dJ28_compare_12 : decode cJ28_compare 12 = .ok (.invokeinterface 107 2, 5) := by decide +kernel
theorem dJ28_compare_17 : decode cJ28_compare 17 = .ok (.goto 14, 3) := dk_167 0 14 (dk_at dksJ28_compare_0 17 rfl rfl)
theorem dJ28_compare_20 : decode cJ28_compare 20 = .ok (.aload_n 0, 1) := dk_42 (dk_at dksJ28_compare_0 20 rfl rfl)
theorem dJ28_compare_21 : decode cJ28_compare 21 = .ok (.getfield 16, 3) := dk_180 0 16 (dk_at dksJ28_compare_0 21 rfl rfl)
theorem dJ28_compare_24 : decode cJ28_compare 24 = .ok (.aload_n 1, 1) := dk_43 (dk_at dksJ28_compare_1 0 rfl rfl)
theorem dJ28_compare_25 : decode cJ28_compare 25 = .ok (.aload_n 2, 1) := dk_44 (dk_at dksJ28_compare_1 1 rfl rfl)
theorem dJ28_compare_26 : decode cJ28_compare 26 = .ok (.invokeinterface 117 3, 5) := by decide +kernel
theorem dJ28_compare_31 : decode cJ28_compare 31 = .ok (.ireturn, 1) := dk_172 (dk_at dksJ28_compare_1 7 rfl rfl)
abbrev cJ28_addEntry : ByteArray := prog_93_method_29_code
def dkwJ28_addEntry_2 : List UInt8 := [181, 0, 7, 42, 89, 180, 0, 13, 4, 96, 181, 0, 13, 177]
abbrev dktJ28_addEntry_2 : List UInt8 := dkwJ28_addEntry_2 ++ []
def dkwJ28_addEntry_1 : List UInt8 := [167, 0, 9, 45, 25, 5, 181, 0, 114, 42, 25, 5, 182, 0, 170, 42, 89, 180, 0, 7, 4, 96]
abbrev dktJ28_addEntry_1 : List UInt8 := dkwJ28_addEntry_1 ++ dktJ28_addEntry_2
def dkwJ28_addEntry_0 : List UInt8 := [187, 0, 59, 89, 43, 44, 45, 183, 0, 167, 58, 5, 21, 4, 153, 0, 12, 45, 25, 5, 181, 0, 111]
abbrev dktJ28_addEntry_0 : List UInt8 := dkwJ28_addEntry_0 ++ dktJ28_addEntry_1
theorem dksJ28_addEntry_0 : cJ28_addEntry.data.toList.drop 0 = dktJ28_addEntry_0 := by decide +kernel
theorem dksJ28_addEntry_1 : cJ28_addEntry.data.toList.drop 23 = dktJ28_addEntry_1 := dk_seg dksJ28_addEntry_0 23 rfl rfl
theorem dksJ28_addEntry_2 : cJ28_addEntry.data.toList.drop 45 = dktJ28_addEntry_2 := dk_seg dksJ28_addEntry_1 22 rfl rfl
theorem dJ28_addEntry_0 : decode cJ28_addEntry 0 = .ok (.new 59, 3) := dk_187 0 59 (dk_at dksJ28_addEntry_0 0 rfl rfl)
theorem dJ28_addEntry_3 : decode cJ28_addEntry 3 = .ok (.dup, 1) := dk_89 (dk_at dksJ28_addEntry_0 3 rfl rfl)
theorem dJ28_addEntry_4 : decode cJ28_addEntry 4 = .ok (.aload_n 1, 1) := dk_43 (dk_at dksJ28_addEntry_0 4 rfl rfl)
theorem dJ28_addEntry_5 : decode cJ28_addEntry 5 = .ok (.aload_n 2, 1) := dk_44 (dk_at dksJ28_addEntry_0 5 rfl rfl)
theorem dJ28_addEntry_6 : decode cJ28_addEntry 6 = .ok (.aload_n 3, 1) := dk_45 (dk_at dksJ28_addEntry_0 6 rfl rfl)
theorem dJ28_addEntry_7 : decode cJ28_addEntry 7 = .ok (.invokespecial 167, 3) := dk_183 0 167 (dk_at dksJ28_addEntry_0 7 rfl rfl)
theorem dJ28_addEntry_10 : decode cJ28_addEntry 10 = .ok (.astore 5, 2) := dk_58 5 (dk_at dksJ28_addEntry_0 10 rfl rfl)
theorem dJ28_addEntry_12 : decode cJ28_addEntry 12 = .ok (.iload 4, 2) := dk_21 4 (dk_at dksJ28_addEntry_0 12 rfl rfl)
theorem dJ28_addEntry_14 : decode cJ28_addEntry 14 = .ok (.ifCond .eq 12, 3) := dk_153 0 12 (dk_at dksJ28_addEntry_0 14 rfl rfl)
theorem dJ28_addEntry_17 : decode cJ28_addEntry 17 = .ok (.aload_n 3, 1) := dk_45 (dk_at dksJ28_addEntry_0 17 rfl rfl)
theorem dJ28_addEntry_18 : decode cJ28_addEntry 18 = .ok (.aload 5, 2) := dk_25 5 (dk_at dksJ28_addEntry_0 18 rfl rfl)
theorem dJ28_addEntry_20 : decode cJ28_addEntry 20 = .ok (.putfield 111, 3) := dk_181 0 111 (dk_at dksJ28_addEntry_0 20 rfl rfl)
theorem dJ28_addEntry_23 : decode cJ28_addEntry 23 = .ok (.goto 9, 3) := dk_167 0 9 (dk_at dksJ28_addEntry_1 0 rfl rfl)
theorem dJ28_addEntry_26 : decode cJ28_addEntry 26 = .ok (.aload_n 3, 1) := dk_45 (dk_at dksJ28_addEntry_1 3 rfl rfl)
theorem dJ28_addEntry_27 : decode cJ28_addEntry 27 = .ok (.aload 5, 2) := dk_25 5 (dk_at dksJ28_addEntry_1 4 rfl rfl)
theorem dJ28_addEntry_29 : decode cJ28_addEntry 29 = .ok (.putfield 114, 3) := dk_181 0 114 (dk_at dksJ28_addEntry_1 6 rfl rfl)
theorem dJ28_addEntry_32 : decode cJ28_addEntry 32 = .ok (.aload_n 0, 1) := dk_42 (dk_at dksJ28_addEntry_1 9 rfl rfl)
theorem dJ28_addEntry_33 : decode cJ28_addEntry 33 = .ok (.aload 5, 2) := dk_25 5 (dk_at dksJ28_addEntry_1 10 rfl rfl)
theorem dJ28_addEntry_35 : decode cJ28_addEntry 35 = .ok (.invokevirtual 170, 3) := dk_182 0 170 (dk_at dksJ28_addEntry_1 12 rfl rfl)
theorem dJ28_addEntry_38 : decode cJ28_addEntry 38 = .ok (.aload_n 0, 1) := dk_42 (dk_at dksJ28_addEntry_1 15 rfl rfl)
theorem dJ28_addEntry_39 : decode cJ28_addEntry 39 = .ok (.dup, 1) := dk_89 (dk_at dksJ28_addEntry_1 16 rfl rfl)
theorem dJ28_addEntry_40 : decode cJ28_addEntry 40 = .ok (.getfield 7, 3) := dk_180 0 7 (dk_at dksJ28_addEntry_1 17 rfl rfl)
theorem dJ28_addEntry_43 : decode cJ28_addEntry 43 = .ok (.iconst 1, 1) := dk_4 (dk_at dksJ28_addEntry_1 20 rfl rfl)
theorem dJ28_addEntry_44 : decode cJ28_addEntry 44 = .ok (.iadd, 1) := dk_96 (dk_at dksJ28_addEntry_1 21 rfl rfl)
theorem dJ28_addEntry_45 : decode cJ28_addEntry 45 = .ok (.putfield 7, 3) := dk_181 0 7 (dk_at dksJ28_addEntry_2 0 rfl rfl)
theorem dJ28_addEntry_48 : decode cJ28_addEntry 48 = .ok (.aload_n 0, 1) := dk_42 (dk_at dksJ28_addEntry_2 3 rfl rfl)
theorem dJ28_addEntry_49 : decode cJ28_addEntry 49 = .ok (.dup, 1) := dk_89 (dk_at dksJ28_addEntry_2 4 rfl rfl)
theorem dJ28_addEntry_50 : decode cJ28_addEntry 50 = .ok (.getfield 13, 3) := dk_180 0 13 (dk_at dksJ28_addEntry_2 5 rfl rfl)
theorem dJ28_addEntry_53 : decode cJ28_addEntry 53 = .ok (.iconst 1, 1) := dk_4 (dk_at dksJ28_addEntry_2 8 rfl rfl)
theorem dJ28_addEntry_54 : decode cJ28_addEntry 54 = .ok (.iadd, 1) := dk_96 (dk_at dksJ28_addEntry_2 9 rfl rfl)
theorem dJ28_addEntry_55 : decode cJ28_addEntry 55 = .ok (.putfield 13, 3) := dk_181 0 13 (dk_at dksJ28_addEntry_2 10 rfl rfl)
theorem dJ28_addEntry_58 : decode cJ28_addEntry 58 = .ok (.return_, 1) := dk_177 (dk_at dksJ28_addEntry_2 13 rfl rfl)
abbrev cJ28_fixAfterInsertion : ByteArray := prog_93_method_83_code
def dkwJ28_fixAfterInsertion_11 : List UInt8 := [42, 180, 0, 101, 4, 181, 1, 34, 177]
abbrev dktJ28_fixAfterInsertion_11 : List UInt8 := dkwJ28_fixAfterInsertion_11 ++ []
def dkwJ28_fixAfterInsertion_10 : List UInt8 := [184, 1, 38, 184, 1, 38, 3, 184, 1, 51, 42, 43, 184, 1, 38, 184, 1, 38, 182, 1, 55, 167, 255, 6]
abbrev dktJ28_fixAfterInsertion_10 : List UInt8 := dkwJ28_fixAfterInsertion_10 ++ dktJ28_fixAfterInsertion_11
def dkwJ28_fixAfterInsertion_9 : List UInt8 := [166, 0, 13, 43, 184, 1, 38, 76, 42, 43, 182, 1, 58, 43, 184, 1, 38, 4, 184, 1, 51, 43]
abbrev dktJ28_fixAfterInsertion_9 : List UInt8 := dkwJ28_fixAfterInsertion_9 ++ dktJ28_fixAfterInsertion_10
def dkwJ28_fixAfterInsertion_8 : List UInt8 := [184, 1, 51, 43, 184, 1, 38, 184, 1, 38, 76, 167, 0, 54, 43, 43, 184, 1, 38, 184, 1, 41]
abbrev dktJ28_fixAfterInsertion_8 : List UInt8 := dkwJ28_fixAfterInsertion_8 ++ dktJ28_fixAfterInsertion_9
def dkwJ28_fixAfterInsertion_7 : List UInt8 := [154, 0, 38, 43, 184, 1, 38, 4, 184, 1, 51, 44, 4, 184, 1, 51, 43, 184, 1, 38, 184, 1, 38, 3]
abbrev dktJ28_fixAfterInsertion_7 : List UInt8 := dkwJ28_fixAfterInsertion_7 ++ dktJ28_fixAfterInsertion_8
def dkwJ28_fixAfterInsertion_6 : List UInt8 := [184, 1, 38, 182, 1, 58, 167, 255, 113, 43, 184, 1, 38, 184, 1, 38, 184, 1, 41, 77, 44, 184, 1, 47]
abbrev dktJ28_fixAfterInsertion_6 : List UInt8 := dkwJ28_fixAfterInsertion_6 ++ dktJ28_fixAfterInsertion_7
def dkwJ28_fixAfterInsertion_5 : List UInt8 := [43, 184, 1, 38, 4, 184, 1, 51, 43, 184, 1, 38, 184, 1, 38, 3, 184, 1, 51, 42, 43, 184, 1, 38]
abbrev dktJ28_fixAfterInsertion_5 : List UInt8 := dkwJ28_fixAfterInsertion_5 ++ dktJ28_fixAfterInsertion_6
def dkwJ28_fixAfterInsertion_4 : List UInt8 := [167, 0, 54, 43, 43, 184, 1, 38, 184, 1, 44, 166, 0, 13, 43, 184, 1, 38, 76, 42, 43, 182, 1, 55]
abbrev dktJ28_fixAfterInsertion_4 : List UInt8 := dkwJ28_fixAfterInsertion_4 ++ dktJ28_fixAfterInsertion_5
def dkwJ28_fixAfterInsertion_3 : List UInt8 := [184, 1, 51, 43, 184, 1, 38, 184, 1, 38, 3, 184, 1, 51, 43, 184, 1, 38, 184, 1, 38, 76]
abbrev dktJ28_fixAfterInsertion_3 : List UInt8 := dkwJ28_fixAfterInsertion_3 ++ dktJ28_fixAfterInsertion_4
def dkwJ28_fixAfterInsertion_2 : List UInt8 := [184, 1, 38, 184, 1, 44, 77, 44, 184, 1, 47, 154, 0, 38, 43, 184, 1, 38, 4, 184, 1, 51, 44, 4]
abbrev dktJ28_fixAfterInsertion_2 : List UInt8 := dkwJ28_fixAfterInsertion_2 ++ dktJ28_fixAfterInsertion_3
def dkwJ28_fixAfterInsertion_1 : List UInt8 := [154, 0, 234, 43, 184, 1, 38, 43, 184, 1, 38, 184, 1, 38, 184, 1, 41, 166, 0, 110, 43, 184, 1, 38]
abbrev dktJ28_fixAfterInsertion_1 : List UInt8 := dkwJ28_fixAfterInsertion_1 ++ dktJ28_fixAfterInsertion_2
def dkwJ28_fixAfterInsertion_0 : List UInt8 := [43, 3, 181, 1, 34, 43, 198, 0, 252, 43, 42, 180, 0, 101, 165, 0, 244, 43, 180, 0, 124, 180, 1, 34]
abbrev dktJ28_fixAfterInsertion_0 : List UInt8 := dkwJ28_fixAfterInsertion_0 ++ dktJ28_fixAfterInsertion_1
theorem dksJ28_fixAfterInsertion_0 : cJ28_fixAfterInsertion.data.toList.drop 0 = dktJ28_fixAfterInsertion_0 := by decide +kernel
theorem dksJ28_fixAfterInsertion_1 : cJ28_fixAfterInsertion.data.toList.drop 24 = dktJ28_fixAfterInsertion_1 := dk_seg dksJ28_fixAfterInsertion_0 24 rfl rfl
theorem dksJ28_fixAfterInsertion_2 : cJ28_fixAfterInsertion.data.toList.drop 48 = dktJ28_fixAfterInsertion_2 := dk_seg dksJ28_fixAfterInsertion_1 24 rfl rfl
theorem dksJ28_fixAfterInsertion_3 : cJ28_fixAfterInsertion.data.toList.drop 72 = dktJ28_fixAfterInsertion_3 := dk_seg dksJ28_fixAfterInsertion_2 24 rfl rfl
theorem dksJ28_fixAfterInsertion_4 : cJ28_fixAfterInsertion.data.toList.drop 94 = dktJ28_fixAfterInsertion_4 := dk_seg dksJ28_fixAfterInsertion_3 22 rfl rfl
theorem dksJ28_fixAfterInsertion_5 : cJ28_fixAfterInsertion.data.toList.drop 118 = dktJ28_fixAfterInsertion_5 := dk_seg dksJ28_fixAfterInsertion_4 24 rfl rfl
theorem dksJ28_fixAfterInsertion_6 : cJ28_fixAfterInsertion.data.toList.drop 142 = dktJ28_fixAfterInsertion_6 := dk_seg dksJ28_fixAfterInsertion_5 24 rfl rfl
theorem dksJ28_fixAfterInsertion_7 : cJ28_fixAfterInsertion.data.toList.drop 166 = dktJ28_fixAfterInsertion_7 := dk_seg dksJ28_fixAfterInsertion_6 24 rfl rfl
theorem dksJ28_fixAfterInsertion_8 : cJ28_fixAfterInsertion.data.toList.drop 190 = dktJ28_fixAfterInsertion_8 := dk_seg dksJ28_fixAfterInsertion_7 24 rfl rfl
theorem dksJ28_fixAfterInsertion_9 : cJ28_fixAfterInsertion.data.toList.drop 212 = dktJ28_fixAfterInsertion_9 := dk_seg dksJ28_fixAfterInsertion_8 22 rfl rfl
theorem dksJ28_fixAfterInsertion_10 : cJ28_fixAfterInsertion.data.toList.drop 234 = dktJ28_fixAfterInsertion_10 := dk_seg dksJ28_fixAfterInsertion_9 22 rfl rfl
theorem dksJ28_fixAfterInsertion_11 : cJ28_fixAfterInsertion.data.toList.drop 258 = dktJ28_fixAfterInsertion_11 := dk_seg dksJ28_fixAfterInsertion_10 24 rfl rfl
theorem dJ28_fixAfterInsertion_0 : decode cJ28_fixAfterInsertion 0 = .ok (.aload_n 1, 1) := dk_43 (dk_at dksJ28_fixAfterInsertion_0 0 rfl rfl)
theorem dJ28_fixAfterInsertion_1 : decode cJ28_fixAfterInsertion 1 = .ok (.iconst 0, 1) := dk_3 (dk_at dksJ28_fixAfterInsertion_0 1 rfl rfl)
theorem dJ28_fixAfterInsertion_2 : decode cJ28_fixAfterInsertion 2 = .ok (.putfield 290, 3) := dk_181 1 34 (dk_at dksJ28_fixAfterInsertion_0 2 rfl rfl)
theorem dJ28_fixAfterInsertion_5 : decode cJ28_fixAfterInsertion 5 = .ok (.aload_n 1, 1) := dk_43 (dk_at dksJ28_fixAfterInsertion_0 5 rfl rfl)
theorem dJ28_fixAfterInsertion_6 : decode cJ28_fixAfterInsertion 6 = .ok (.ifnull 252, 3) := dk_198 0 252 (dk_at dksJ28_fixAfterInsertion_0 6 rfl rfl)
theorem dJ28_fixAfterInsertion_9 : decode cJ28_fixAfterInsertion 9 = .ok (.aload_n 1, 1) := dk_43 (dk_at dksJ28_fixAfterInsertion_0 9 rfl rfl)
theorem dJ28_fixAfterInsertion_10 : decode cJ28_fixAfterInsertion 10 = .ok (.aload_n 0, 1) := dk_42 (dk_at dksJ28_fixAfterInsertion_0 10 rfl rfl)
theorem dJ28_fixAfterInsertion_11 : decode cJ28_fixAfterInsertion 11 = .ok (.getfield 101, 3) := dk_180 0 101 (dk_at dksJ28_fixAfterInsertion_0 11 rfl rfl)
theorem dJ28_fixAfterInsertion_14 : decode cJ28_fixAfterInsertion 14 = .ok (.if_acmp .eq 244, 3) := dk_165 0 244 (dk_at dksJ28_fixAfterInsertion_0 14 rfl rfl)
theorem dJ28_fixAfterInsertion_17 : decode cJ28_fixAfterInsertion 17 = .ok (.aload_n 1, 1) := dk_43 (dk_at dksJ28_fixAfterInsertion_0 17 rfl rfl)
theorem dJ28_fixAfterInsertion_18 : decode cJ28_fixAfterInsertion 18 = .ok (.getfield 124, 3) := dk_180 0 124 (dk_at dksJ28_fixAfterInsertion_0 18 rfl rfl)
theorem dJ28_fixAfterInsertion_21 : decode cJ28_fixAfterInsertion 21 = .ok (.getfield 290, 3) := dk_180 1 34 (dk_at dksJ28_fixAfterInsertion_0 21 rfl rfl)
theorem dJ28_fixAfterInsertion_24 : decode cJ28_fixAfterInsertion 24 = .ok (.ifCond .ne 234, 3) := dk_154 0 234 (dk_at dksJ28_fixAfterInsertion_1 0 rfl rfl)
theorem dJ28_fixAfterInsertion_27 : decode cJ28_fixAfterInsertion 27 = .ok (.aload_n 1, 1) := dk_43 (dk_at dksJ28_fixAfterInsertion_1 3 rfl rfl)
theorem dJ28_fixAfterInsertion_28 : decode cJ28_fixAfterInsertion 28 = .ok (.invokestatic 294, 3) := dk_184 1 38 (dk_at dksJ28_fixAfterInsertion_1 4 rfl rfl)
theorem dJ28_fixAfterInsertion_31 : decode cJ28_fixAfterInsertion 31 = .ok (.aload_n 1, 1) := dk_43 (dk_at dksJ28_fixAfterInsertion_1 7 rfl rfl)
theorem dJ28_fixAfterInsertion_32 : decode cJ28_fixAfterInsertion 32 = .ok (.invokestatic 294, 3) := dk_184 1 38 (dk_at dksJ28_fixAfterInsertion_1 8 rfl rfl)
theorem dJ28_fixAfterInsertion_35 : decode cJ28_fixAfterInsertion 35 = .ok (.invokestatic 294, 3) := dk_184 1 38 (dk_at dksJ28_fixAfterInsertion_1 11 rfl rfl)
theorem dJ28_fixAfterInsertion_38 : decode cJ28_fixAfterInsertion 38 = .ok (.invokestatic 297, 3) := dk_184 1 41 (dk_at dksJ28_fixAfterInsertion_1 14 rfl rfl)
theorem dJ28_fixAfterInsertion_41 : decode cJ28_fixAfterInsertion 41 = .ok (.if_acmp .ne 110, 3) := dk_166 0 110 (dk_at dksJ28_fixAfterInsertion_1 17 rfl rfl)
theorem dJ28_fixAfterInsertion_44 : decode cJ28_fixAfterInsertion 44 = .ok (.aload_n 1, 1) := dk_43 (dk_at dksJ28_fixAfterInsertion_1 20 rfl rfl)
theorem dJ28_fixAfterInsertion_45 : decode cJ28_fixAfterInsertion 45 = .ok (.invokestatic 294, 3) := dk_184 1 38 (dk_at dksJ28_fixAfterInsertion_1 21 rfl rfl)
theorem dJ28_fixAfterInsertion_48 : decode cJ28_fixAfterInsertion 48 = .ok (.invokestatic 294, 3) := dk_184 1 38 (dk_at dksJ28_fixAfterInsertion_2 0 rfl rfl)
theorem dJ28_fixAfterInsertion_51 : decode cJ28_fixAfterInsertion 51 = .ok (.invokestatic 300, 3) := dk_184 1 44 (dk_at dksJ28_fixAfterInsertion_2 3 rfl rfl)
theorem dJ28_fixAfterInsertion_54 : decode cJ28_fixAfterInsertion 54 = .ok (.astore_n 2, 1) := dk_77 (dk_at dksJ28_fixAfterInsertion_2 6 rfl rfl)
theorem dJ28_fixAfterInsertion_55 : decode cJ28_fixAfterInsertion 55 = .ok (.aload_n 2, 1) := dk_44 (dk_at dksJ28_fixAfterInsertion_2 7 rfl rfl)
theorem dJ28_fixAfterInsertion_56 : decode cJ28_fixAfterInsertion 56 = .ok (.invokestatic 303, 3) := dk_184 1 47 (dk_at dksJ28_fixAfterInsertion_2 8 rfl rfl)
theorem dJ28_fixAfterInsertion_59 : decode cJ28_fixAfterInsertion 59 = .ok (.ifCond .ne 38, 3) := dk_154 0 38 (dk_at dksJ28_fixAfterInsertion_2 11 rfl rfl)
theorem dJ28_fixAfterInsertion_62 : decode cJ28_fixAfterInsertion 62 = .ok (.aload_n 1, 1) := dk_43 (dk_at dksJ28_fixAfterInsertion_2 14 rfl rfl)
theorem dJ28_fixAfterInsertion_63 : decode cJ28_fixAfterInsertion 63 = .ok (.invokestatic 294, 3) := dk_184 1 38 (dk_at dksJ28_fixAfterInsertion_2 15 rfl rfl)
theorem dJ28_fixAfterInsertion_66 : decode cJ28_fixAfterInsertion 66 = .ok (.iconst 1, 1) := dk_4 (dk_at dksJ28_fixAfterInsertion_2 18 rfl rfl)
theorem dJ28_fixAfterInsertion_67 : decode cJ28_fixAfterInsertion 67 = .ok (.invokestatic 307, 3) := dk_184 1 51 (dk_at dksJ28_fixAfterInsertion_2 19 rfl rfl)
theorem dJ28_fixAfterInsertion_70 : decode cJ28_fixAfterInsertion 70 = .ok (.aload_n 2, 1) := dk_44 (dk_at dksJ28_fixAfterInsertion_2 22 rfl rfl)
theorem dJ28_fixAfterInsertion_71 : decode cJ28_fixAfterInsertion 71 = .ok (.iconst 1, 1) := dk_4 (dk_at dksJ28_fixAfterInsertion_2 23 rfl rfl)
theorem dJ28_fixAfterInsertion_72 : decode cJ28_fixAfterInsertion 72 = .ok (.invokestatic 307, 3) := dk_184 1 51 (dk_at dksJ28_fixAfterInsertion_3 0 rfl rfl)
theorem dJ28_fixAfterInsertion_75 : decode cJ28_fixAfterInsertion 75 = .ok (.aload_n 1, 1) := dk_43 (dk_at dksJ28_fixAfterInsertion_3 3 rfl rfl)
theorem dJ28_fixAfterInsertion_76 : decode cJ28_fixAfterInsertion 76 = .ok (.invokestatic 294, 3) := dk_184 1 38 (dk_at dksJ28_fixAfterInsertion_3 4 rfl rfl)
theorem dJ28_fixAfterInsertion_79 : decode cJ28_fixAfterInsertion 79 = .ok (.invokestatic 294, 3) := dk_184 1 38 (dk_at dksJ28_fixAfterInsertion_3 7 rfl rfl)
theorem dJ28_fixAfterInsertion_82 : decode cJ28_fixAfterInsertion 82 = .ok (.iconst 0, 1) := dk_3 (dk_at dksJ28_fixAfterInsertion_3 10 rfl rfl)
theorem dJ28_fixAfterInsertion_83 : decode cJ28_fixAfterInsertion 83 = .ok (.invokestatic 307, 3) := dk_184 1 51 (dk_at dksJ28_fixAfterInsertion_3 11 rfl rfl)
theorem dJ28_fixAfterInsertion_86 : decode cJ28_fixAfterInsertion 86 = .ok (.aload_n 1, 1) := dk_43 (dk_at dksJ28_fixAfterInsertion_3 14 rfl rfl)
theorem dJ28_fixAfterInsertion_87 : decode cJ28_fixAfterInsertion 87 = .ok (.invokestatic 294, 3) := dk_184 1 38 (dk_at dksJ28_fixAfterInsertion_3 15 rfl rfl)
theorem dJ28_fixAfterInsertion_90 : decode cJ28_fixAfterInsertion 90 = .ok (.invokestatic 294, 3) := dk_184 1 38 (dk_at dksJ28_fixAfterInsertion_3 18 rfl rfl)
theorem dJ28_fixAfterInsertion_93 : decode cJ28_fixAfterInsertion 93 = .ok (.astore_n 1, 1) := dk_76 (dk_at dksJ28_fixAfterInsertion_3 21 rfl rfl)
theorem dJ28_fixAfterInsertion_94 : decode cJ28_fixAfterInsertion 94 = .ok (.goto 54, 3) := dk_167 0 54 (dk_at dksJ28_fixAfterInsertion_4 0 rfl rfl)
theorem dJ28_fixAfterInsertion_97 : decode cJ28_fixAfterInsertion 97 = .ok (.aload_n 1, 1) := dk_43 (dk_at dksJ28_fixAfterInsertion_4 3 rfl rfl)
theorem dJ28_fixAfterInsertion_98 : decode cJ28_fixAfterInsertion 98 = .ok (.aload_n 1, 1) := dk_43 (dk_at dksJ28_fixAfterInsertion_4 4 rfl rfl)
theorem dJ28_fixAfterInsertion_99 : decode cJ28_fixAfterInsertion 99 = .ok (.invokestatic 294, 3) := dk_184 1 38 (dk_at dksJ28_fixAfterInsertion_4 5 rfl rfl)
theorem dJ28_fixAfterInsertion_102 : decode cJ28_fixAfterInsertion 102 = .ok (.invokestatic 300, 3) := dk_184 1 44 (dk_at dksJ28_fixAfterInsertion_4 8 rfl rfl)
theorem dJ28_fixAfterInsertion_105 : decode cJ28_fixAfterInsertion 105 = .ok (.if_acmp .ne 13, 3) := dk_166 0 13 (dk_at dksJ28_fixAfterInsertion_4 11 rfl rfl)
theorem dJ28_fixAfterInsertion_108 : decode cJ28_fixAfterInsertion 108 = .ok (.aload_n 1, 1) := dk_43 (dk_at dksJ28_fixAfterInsertion_4 14 rfl rfl)
theorem dJ28_fixAfterInsertion_109 : decode cJ28_fixAfterInsertion 109 = .ok (.invokestatic 294, 3) := dk_184 1 38 (dk_at dksJ28_fixAfterInsertion_4 15 rfl rfl)
theorem dJ28_fixAfterInsertion_112 : decode cJ28_fixAfterInsertion 112 = .ok (.astore_n 1, 1) := dk_76 (dk_at dksJ28_fixAfterInsertion_4 18 rfl rfl)
theorem dJ28_fixAfterInsertion_113 : decode cJ28_fixAfterInsertion 113 = .ok (.aload_n 0, 1) := dk_42 (dk_at dksJ28_fixAfterInsertion_4 19 rfl rfl)
theorem dJ28_fixAfterInsertion_114 : decode cJ28_fixAfterInsertion 114 = .ok (.aload_n 1, 1) := dk_43 (dk_at dksJ28_fixAfterInsertion_4 20 rfl rfl)
theorem dJ28_fixAfterInsertion_115 : decode cJ28_fixAfterInsertion 115 = .ok (.invokevirtual 311, 3) := dk_182 1 55 (dk_at dksJ28_fixAfterInsertion_4 21 rfl rfl)
theorem dJ28_fixAfterInsertion_118 : decode cJ28_fixAfterInsertion 118 = .ok (.aload_n 1, 1) := dk_43 (dk_at dksJ28_fixAfterInsertion_5 0 rfl rfl)
theorem dJ28_fixAfterInsertion_119 : decode cJ28_fixAfterInsertion 119 = .ok (.invokestatic 294, 3) := dk_184 1 38 (dk_at dksJ28_fixAfterInsertion_5 1 rfl rfl)
theorem dJ28_fixAfterInsertion_122 : decode cJ28_fixAfterInsertion 122 = .ok (.iconst 1, 1) := dk_4 (dk_at dksJ28_fixAfterInsertion_5 4 rfl rfl)
theorem dJ28_fixAfterInsertion_123 : decode cJ28_fixAfterInsertion 123 = .ok (.invokestatic 307, 3) := dk_184 1 51 (dk_at dksJ28_fixAfterInsertion_5 5 rfl rfl)
theorem dJ28_fixAfterInsertion_126 : decode cJ28_fixAfterInsertion 126 = .ok (.aload_n 1, 1) := dk_43 (dk_at dksJ28_fixAfterInsertion_5 8 rfl rfl)
theorem dJ28_fixAfterInsertion_127 : decode cJ28_fixAfterInsertion 127 = .ok (.invokestatic 294, 3) := dk_184 1 38 (dk_at dksJ28_fixAfterInsertion_5 9 rfl rfl)
theorem dJ28_fixAfterInsertion_130 : decode cJ28_fixAfterInsertion 130 = .ok (.invokestatic 294, 3) := dk_184 1 38 (dk_at dksJ28_fixAfterInsertion_5 12 rfl rfl)
theorem dJ28_fixAfterInsertion_133 : decode cJ28_fixAfterInsertion 133 = .ok (.iconst 0, 1) := dk_3 (dk_at dksJ28_fixAfterInsertion_5 15 rfl rfl)
theorem dJ28_fixAfterInsertion_134 : decode cJ28_fixAfterInsertion 134 = .ok (.invokestatic 307, 3) := dk_184 1 51 (dk_at dksJ28_fixAfterInsertion_5 16 rfl rfl)
theorem dJ28_fixAfterInsertion_137 : decode cJ28_fixAfterInsertion 137 = .ok (.aload_n 0, 1) := dk_42 (dk_at dksJ28_fixAfterInsertion_5 19 rfl rfl)
theorem dJ28_fixAfterInsertion_138 : decode cJ28_fixAfterInsertion 138 = .ok (.aload_n 1, 1) := dk_43 (dk_at dksJ28_fixAfterInsertion_5 20 rfl rfl)
theorem dJ28_fixAfterInsertion_139 : decode cJ28_fixAfterInsertion 139 = .ok (.invokestatic 294, 3) := dk_184 1 38 (dk_at dksJ28_fixAfterInsertion_5 21 rfl rfl)
theorem dJ28_fixAfterInsertion_142 : decode cJ28_fixAfterInsertion 142 = .ok (.invokestatic 294, 3) := dk_184 1 38 (dk_at dksJ28_fixAfterInsertion_6 0 rfl rfl)
theorem dJ28_fixAfterInsertion_145 : decode cJ28_fixAfterInsertion 145 = .ok (.invokevirtual 314, 3) := dk_182 1 58 (dk_at dksJ28_fixAfterInsertion_6 3 rfl rfl)
theorem dJ28_fixAfterInsertion_148 : decode cJ28_fixAfterInsertion 148 = .ok (.goto (-143), 3) := dk_167 255 113 (dk_at dksJ28_fixAfterInsertion_6 6 rfl rfl)
theorem dJ28_fixAfterInsertion_151 : decode cJ28_fixAfterInsertion 151 = .ok (.aload_n 1, 1) := dk_43 (dk_at dksJ28_fixAfterInsertion_6 9 rfl rfl)
theorem dJ28_fixAfterInsertion_152 : decode cJ28_fixAfterInsertion 152 = .ok (.invokestatic 294, 3) := dk_184 1 38 (dk_at dksJ28_fixAfterInsertion_6 10 rfl rfl)
theorem dJ28_fixAfterInsertion_155 : decode cJ28_fixAfterInsertion 155 = .ok (.invokestatic 294, 3) := dk_184 1 38 (dk_at dksJ28_fixAfterInsertion_6 13 rfl rfl)
theorem dJ28_fixAfterInsertion_158 : decode cJ28_fixAfterInsertion 158 = .ok (.invokestatic 297, 3) := dk_184 1 41 (dk_at dksJ28_fixAfterInsertion_6 16 rfl rfl)
theorem dJ28_fixAfterInsertion_161 : decode cJ28_fixAfterInsertion 161 = .ok (.astore_n 2, 1) := dk_77 (dk_at dksJ28_fixAfterInsertion_6 19 rfl rfl)
theorem dJ28_fixAfterInsertion_162 : decode cJ28_fixAfterInsertion 162 = .ok (.aload_n 2, 1) := dk_44 (dk_at dksJ28_fixAfterInsertion_6 20 rfl rfl)
theorem dJ28_fixAfterInsertion_163 : decode cJ28_fixAfterInsertion 163 = .ok (.invokestatic 303, 3) := dk_184 1 47 (dk_at dksJ28_fixAfterInsertion_6 21 rfl rfl)
theorem dJ28_fixAfterInsertion_166 : decode cJ28_fixAfterInsertion 166 = .ok (.ifCond .ne 38, 3) := dk_154 0 38 (dk_at dksJ28_fixAfterInsertion_7 0 rfl rfl)
theorem dJ28_fixAfterInsertion_169 : decode cJ28_fixAfterInsertion 169 = .ok (.aload_n 1, 1) := dk_43 (dk_at dksJ28_fixAfterInsertion_7 3 rfl rfl)
theorem dJ28_fixAfterInsertion_170 : decode cJ28_fixAfterInsertion 170 = .ok (.invokestatic 294, 3) := dk_184 1 38 (dk_at dksJ28_fixAfterInsertion_7 4 rfl rfl)
theorem dJ28_fixAfterInsertion_173 : decode cJ28_fixAfterInsertion 173 = .ok (.iconst 1, 1) := dk_4 (dk_at dksJ28_fixAfterInsertion_7 7 rfl rfl)
theorem dJ28_fixAfterInsertion_174 : decode cJ28_fixAfterInsertion 174 = .ok (.invokestatic 307, 3) := dk_184 1 51 (dk_at dksJ28_fixAfterInsertion_7 8 rfl rfl)
theorem dJ28_fixAfterInsertion_177 : decode cJ28_fixAfterInsertion 177 = .ok (.aload_n 2, 1) := dk_44 (dk_at dksJ28_fixAfterInsertion_7 11 rfl rfl)
theorem dJ28_fixAfterInsertion_178 : decode cJ28_fixAfterInsertion 178 = .ok (.iconst 1, 1) := dk_4 (dk_at dksJ28_fixAfterInsertion_7 12 rfl rfl)
theorem dJ28_fixAfterInsertion_179 : decode cJ28_fixAfterInsertion 179 = .ok (.invokestatic 307, 3) := dk_184 1 51 (dk_at dksJ28_fixAfterInsertion_7 13 rfl rfl)
theorem dJ28_fixAfterInsertion_182 : decode cJ28_fixAfterInsertion 182 = .ok (.aload_n 1, 1) := dk_43 (dk_at dksJ28_fixAfterInsertion_7 16 rfl rfl)
theorem dJ28_fixAfterInsertion_183 : decode cJ28_fixAfterInsertion 183 = .ok (.invokestatic 294, 3) := dk_184 1 38 (dk_at dksJ28_fixAfterInsertion_7 17 rfl rfl)
theorem dJ28_fixAfterInsertion_186 : decode cJ28_fixAfterInsertion 186 = .ok (.invokestatic 294, 3) := dk_184 1 38 (dk_at dksJ28_fixAfterInsertion_7 20 rfl rfl)
theorem dJ28_fixAfterInsertion_189 : decode cJ28_fixAfterInsertion 189 = .ok (.iconst 0, 1) := dk_3 (dk_at dksJ28_fixAfterInsertion_7 23 rfl rfl)
theorem dJ28_fixAfterInsertion_190 : decode cJ28_fixAfterInsertion 190 = .ok (.invokestatic 307, 3) := dk_184 1 51 (dk_at dksJ28_fixAfterInsertion_8 0 rfl rfl)
theorem dJ28_fixAfterInsertion_193 : decode cJ28_fixAfterInsertion 193 = .ok (.aload_n 1, 1) := dk_43 (dk_at dksJ28_fixAfterInsertion_8 3 rfl rfl)
theorem dJ28_fixAfterInsertion_194 : decode cJ28_fixAfterInsertion 194 = .ok (.invokestatic 294, 3) := dk_184 1 38 (dk_at dksJ28_fixAfterInsertion_8 4 rfl rfl)
theorem dJ28_fixAfterInsertion_197 : decode cJ28_fixAfterInsertion 197 = .ok (.invokestatic 294, 3) := dk_184 1 38 (dk_at dksJ28_fixAfterInsertion_8 7 rfl rfl)
theorem dJ28_fixAfterInsertion_200 : decode cJ28_fixAfterInsertion 200 = .ok (.astore_n 1, 1) := dk_76 (dk_at dksJ28_fixAfterInsertion_8 10 rfl rfl)
theorem dJ28_fixAfterInsertion_201 : decode cJ28_fixAfterInsertion 201 = .ok (.goto 54, 3) := dk_167 0 54 (dk_at dksJ28_fixAfterInsertion_8 11 rfl rfl)
theorem dJ28_fixAfterInsertion_204 : decode cJ28_fixAfterInsertion 204 = .ok (.aload_n 1, 1) := dk_43 (dk_at dksJ28_fixAfterInsertion_8 14 rfl rfl)
theorem dJ28_fixAfterInsertion_205 : decode cJ28_fixAfterInsertion 205 = .ok (.aload_n 1, 1) := dk_43 (dk_at dksJ28_fixAfterInsertion_8 15 rfl rfl)
theorem dJ28_fixAfterInsertion_206 : decode cJ28_fixAfterInsertion 206 = .ok (.invokestatic 294, 3) := dk_184 1 38 (dk_at dksJ28_fixAfterInsertion_8 16 rfl rfl)
theorem dJ28_fixAfterInsertion_209 : decode cJ28_fixAfterInsertion 209 = .ok (.invokestatic 297, 3) := dk_184 1 41 (dk_at dksJ28_fixAfterInsertion_8 19 rfl rfl)
theorem dJ28_fixAfterInsertion_212 : decode cJ28_fixAfterInsertion 212 = .ok (.if_acmp .ne 13, 3) := dk_166 0 13 (dk_at dksJ28_fixAfterInsertion_9 0 rfl rfl)
theorem dJ28_fixAfterInsertion_215 : decode cJ28_fixAfterInsertion 215 = .ok (.aload_n 1, 1) := dk_43 (dk_at dksJ28_fixAfterInsertion_9 3 rfl rfl)
theorem dJ28_fixAfterInsertion_216 : decode cJ28_fixAfterInsertion 216 = .ok (.invokestatic 294, 3) := dk_184 1 38 (dk_at dksJ28_fixAfterInsertion_9 4 rfl rfl)
theorem dJ28_fixAfterInsertion_219 : decode cJ28_fixAfterInsertion 219 = .ok (.astore_n 1, 1) := dk_76 (dk_at dksJ28_fixAfterInsertion_9 7 rfl rfl)
theorem dJ28_fixAfterInsertion_220 : decode cJ28_fixAfterInsertion 220 = .ok (.aload_n 0, 1) := dk_42 (dk_at dksJ28_fixAfterInsertion_9 8 rfl rfl)
theorem dJ28_fixAfterInsertion_221 : decode cJ28_fixAfterInsertion 221 = .ok (.aload_n 1, 1) := dk_43 (dk_at dksJ28_fixAfterInsertion_9 9 rfl rfl)
theorem dJ28_fixAfterInsertion_222 : decode cJ28_fixAfterInsertion 222 = .ok (.invokevirtual 314, 3) := dk_182 1 58 (dk_at dksJ28_fixAfterInsertion_9 10 rfl rfl)
theorem dJ28_fixAfterInsertion_225 : decode cJ28_fixAfterInsertion 225 = .ok (.aload_n 1, 1) := dk_43 (dk_at dksJ28_fixAfterInsertion_9 13 rfl rfl)
theorem dJ28_fixAfterInsertion_226 : decode cJ28_fixAfterInsertion 226 = .ok (.invokestatic 294, 3) := dk_184 1 38 (dk_at dksJ28_fixAfterInsertion_9 14 rfl rfl)
theorem dJ28_fixAfterInsertion_229 : decode cJ28_fixAfterInsertion 229 = .ok (.iconst 1, 1) := dk_4 (dk_at dksJ28_fixAfterInsertion_9 17 rfl rfl)
theorem dJ28_fixAfterInsertion_230 : decode cJ28_fixAfterInsertion 230 = .ok (.invokestatic 307, 3) := dk_184 1 51 (dk_at dksJ28_fixAfterInsertion_9 18 rfl rfl)
theorem dJ28_fixAfterInsertion_233 : decode cJ28_fixAfterInsertion 233 = .ok (.aload_n 1, 1) := dk_43 (dk_at dksJ28_fixAfterInsertion_9 21 rfl rfl)
theorem dJ28_fixAfterInsertion_234 : decode cJ28_fixAfterInsertion 234 = .ok (.invokestatic 294, 3) := dk_184 1 38 (dk_at dksJ28_fixAfterInsertion_10 0 rfl rfl)
theorem dJ28_fixAfterInsertion_237 : decode cJ28_fixAfterInsertion 237 = .ok (.invokestatic 294, 3) := dk_184 1 38 (dk_at dksJ28_fixAfterInsertion_10 3 rfl rfl)
theorem dJ28_fixAfterInsertion_240 : decode cJ28_fixAfterInsertion 240 = .ok (.iconst 0, 1) := dk_3 (dk_at dksJ28_fixAfterInsertion_10 6 rfl rfl)
theorem dJ28_fixAfterInsertion_241 : decode cJ28_fixAfterInsertion 241 = .ok (.invokestatic 307, 3) := dk_184 1 51 (dk_at dksJ28_fixAfterInsertion_10 7 rfl rfl)
theorem dJ28_fixAfterInsertion_244 : decode cJ28_fixAfterInsertion 244 = .ok (.aload_n 0, 1) := dk_42 (dk_at dksJ28_fixAfterInsertion_10 10 rfl rfl)
theorem dJ28_fixAfterInsertion_245 : decode cJ28_fixAfterInsertion 245 = .ok (.aload_n 1, 1) := dk_43 (dk_at dksJ28_fixAfterInsertion_10 11 rfl rfl)
theorem dJ28_fixAfterInsertion_246 : decode cJ28_fixAfterInsertion 246 = .ok (.invokestatic 294, 3) := dk_184 1 38 (dk_at dksJ28_fixAfterInsertion_10 12 rfl rfl)
theorem dJ28_fixAfterInsertion_249 : decode cJ28_fixAfterInsertion 249 = .ok (.invokestatic 294, 3) := dk_184 1 38 (dk_at dksJ28_fixAfterInsertion_10 15 rfl rfl)
theorem dJ28_fixAfterInsertion_252 : decode cJ28_fixAfterInsertion 252 = .ok (.invokevirtual 311, 3) := dk_182 1 55 (dk_at dksJ28_fixAfterInsertion_10 18 rfl rfl)
theorem dJ28_fixAfterInsertion_255 : decode cJ28_fixAfterInsertion 255 = .ok (.goto (-250), 3) := dk_167 255 6 (dk_at dksJ28_fixAfterInsertion_10 21 rfl rfl)
theorem dJ28_fixAfterInsertion_258 : decode cJ28_fixAfterInsertion 258 = .ok (.aload_n 0, 1) := dk_42 (dk_at dksJ28_fixAfterInsertion_11 0 rfl rfl)
theorem dJ28_fixAfterInsertion_259 : decode cJ28_fixAfterInsertion 259 = .ok (.getfield 101, 3) := dk_180 0 101 (dk_at dksJ28_fixAfterInsertion_11 1 rfl rfl)
theorem dJ28_fixAfterInsertion_262 : decode cJ28_fixAfterInsertion 262 = .ok (.iconst 1, 1) := dk_4 (dk_at dksJ28_fixAfterInsertion_11 4 rfl rfl)
theorem dJ28_fixAfterInsertion_263 : decode cJ28_fixAfterInsertion 263 = .ok (.putfield 290, 3) := dk_181 1 34 (dk_at dksJ28_fixAfterInsertion_11 5 rfl rfl)
theorem dJ28_fixAfterInsertion_266 : decode cJ28_fixAfterInsertion 266 = .ok (.return_, 1) := dk_177 (dk_at dksJ28_fixAfterInsertion_11 8 rfl rfl)
abbrev cJ28_parentOf : ByteArray := prog_93_method_77_code
def dkwJ28_parentOf_0 : List UInt8 := [42, 199, 0, 7, 1, 167, 0, 7, 42, 180, 0, 124, 176]
abbrev dktJ28_parentOf_0 : List UInt8 := dkwJ28_parentOf_0 ++ []
theorem dksJ28_parentOf_0 : cJ28_parentOf.data.toList.drop 0 = dktJ28_parentOf_0 := by decide +kernel
theorem dJ28_parentOf_0 : decode cJ28_parentOf 0 = .ok (.aload_n 0, 1) := dk_42 (dk_at dksJ28_parentOf_0 0 rfl rfl)
theorem dJ28_parentOf_1 : decode cJ28_parentOf 1 = .ok (.ifnonnull 7, 3) := dk_199 0 7 (dk_at dksJ28_parentOf_0 1 rfl rfl)
theorem dJ28_parentOf_4 : decode cJ28_parentOf 4 = .ok (.aconst_null, 1) := dk_1 (dk_at dksJ28_parentOf_0 4 rfl rfl)
theorem dJ28_parentOf_5 : decode cJ28_parentOf 5 = .ok (.goto 7, 3) := dk_167 0 7 (dk_at dksJ28_parentOf_0 5 rfl rfl)
theorem dJ28_parentOf_8 : decode cJ28_parentOf 8 = .ok (.aload_n 0, 1) := dk_42 (dk_at dksJ28_parentOf_0 8 rfl rfl)
theorem dJ28_parentOf_9 : decode cJ28_parentOf 9 = .ok (.getfield 124, 3) := dk_180 0 124 (dk_at dksJ28_parentOf_0 9 rfl rfl)
theorem dJ28_parentOf_12 : decode cJ28_parentOf 12 = .ok (.areturn, 1) := dk_176 (dk_at dksJ28_parentOf_0 12 rfl rfl)
abbrev cJ28_leftOf : ByteArray := prog_93_method_79_code
def dkwJ28_leftOf_0 : List UInt8 := [42, 199, 0, 7, 1, 167, 0, 7, 42, 180, 0, 111, 176]
abbrev dktJ28_leftOf_0 : List UInt8 := dkwJ28_leftOf_0 ++ []
theorem dksJ28_leftOf_0 : cJ28_leftOf.data.toList.drop 0 = dktJ28_leftOf_0 := by decide +kernel
theorem dJ28_leftOf_0 : decode cJ28_leftOf 0 = .ok (.aload_n 0, 1) := dk_42 (dk_at dksJ28_leftOf_0 0 rfl rfl)
theorem dJ28_leftOf_1 : decode cJ28_leftOf 1 = .ok (.ifnonnull 7, 3) := dk_199 0 7 (dk_at dksJ28_leftOf_0 1 rfl rfl)
theorem dJ28_leftOf_4 : decode cJ28_leftOf 4 = .ok (.aconst_null, 1) := dk_1 (dk_at dksJ28_leftOf_0 4 rfl rfl)
theorem dJ28_leftOf_5 : decode cJ28_leftOf 5 = .ok (.goto 7, 3) := dk_167 0 7 (dk_at dksJ28_leftOf_0 5 rfl rfl)
theorem dJ28_leftOf_8 : decode cJ28_leftOf 8 = .ok (.aload_n 0, 1) := dk_42 (dk_at dksJ28_leftOf_0 8 rfl rfl)
theorem dJ28_leftOf_9 : decode cJ28_leftOf 9 = .ok (.getfield 111, 3) := dk_180 0 111 (dk_at dksJ28_leftOf_0 9 rfl rfl)
theorem dJ28_leftOf_12 : decode cJ28_leftOf 12 = .ok (.areturn, 1) := dk_176 (dk_at dksJ28_leftOf_0 12 rfl rfl)
abbrev cJ28_rightOf : ByteArray := prog_93_method_80_code
def dkwJ28_rightOf_0 : List UInt8 := [42, 199, 0, 7, 1, 167, 0, 7, 42, 180, 0, 114, 176]
abbrev dktJ28_rightOf_0 : List UInt8 := dkwJ28_rightOf_0 ++ []
theorem dksJ28_rightOf_0 : cJ28_rightOf.data.toList.drop 0 = dktJ28_rightOf_0 := by decide +kernel
theorem dJ28_rightOf_0 : decode cJ28_rightOf 0 = .ok (.aload_n 0, 1) := dk_42 (dk_at dksJ28_rightOf_0 0 rfl rfl)
theorem dJ28_rightOf_1 : decode cJ28_rightOf 1 = .ok (.ifnonnull 7, 3) := dk_199 0 7 (dk_at dksJ28_rightOf_0 1 rfl rfl)
theorem dJ28_rightOf_4 : decode cJ28_rightOf 4 = .ok (.aconst_null, 1) := dk_1 (dk_at dksJ28_rightOf_0 4 rfl rfl)
theorem dJ28_rightOf_5 : decode cJ28_rightOf 5 = .ok (.goto 7, 3) := dk_167 0 7 (dk_at dksJ28_rightOf_0 5 rfl rfl)
theorem dJ28_rightOf_8 : decode cJ28_rightOf 8 = .ok (.aload_n 0, 1) := dk_42 (dk_at dksJ28_rightOf_0 8 rfl rfl)
theorem dJ28_rightOf_9 : decode cJ28_rightOf 9 = .ok (.getfield 114, 3) := dk_180 0 114 (dk_at dksJ28_rightOf_0 9 rfl rfl)
theorem dJ28_rightOf_12 : decode cJ28_rightOf 12 = .ok (.areturn, 1) := dk_176 (dk_at dksJ28_rightOf_0 12 rfl rfl)
abbrev cJ28_colorOf : ByteArray := prog_93_method_76_code
def dkwJ28_colorOf_0 : List UInt8 := [42, 199, 0, 7, 4, 167, 0, 7, 42, 180, 1, 34, 172]
abbrev dktJ28_colorOf_0 : List UInt8 := dkwJ28_colorOf_0 ++ []
theorem dksJ28_colorOf_0 : cJ28_colorOf.data.toList.drop 0 = dktJ28_colorOf_0 := by decide +kernel
theorem dJ28_colorOf_0 : decode cJ28_colorOf 0 = .ok (.aload_n 0, 1) := dk_42 (dk_at dksJ28_colorOf_0 0 rfl rfl)
theorem dJ28_colorOf_1 : decode cJ28_colorOf 1 = .ok (.ifnonnull 7, 3) := dk_199 0 7 (dk_at dksJ28_colorOf_0 1 rfl rfl)
theorem dJ28_colorOf_4 : decode cJ28_colorOf 4 = .ok (.iconst 1, 1) := dk_4 (dk_at dksJ28_colorOf_0 4 rfl rfl)
theorem dJ28_colorOf_5 : decode cJ28_colorOf 5 = .ok (.goto 7, 3) := dk_167 0 7 (dk_at dksJ28_colorOf_0 5 rfl rfl)
theorem dJ28_colorOf_8 : decode cJ28_colorOf 8 = .ok (.aload_n 0, 1) := dk_42 (dk_at dksJ28_colorOf_0 8 rfl rfl)
theorem dJ28_colorOf_9 : decode cJ28_colorOf 9 = .ok (.getfield 290, 3) := dk_180 1 34 (dk_at dksJ28_colorOf_0 9 rfl rfl)
theorem dJ28_colorOf_12 : decode cJ28_colorOf 12 = .ok (.ireturn, 1) := dk_172 (dk_at dksJ28_colorOf_0 12 rfl rfl)
abbrev cJ28_setColor : ByteArray := prog_93_method_78_code
def dkwJ28_setColor_0 : List UInt8 := [42, 198, 0, 8, 42, 27, 181, 1, 34, 177]
abbrev dktJ28_setColor_0 : List UInt8 := dkwJ28_setColor_0 ++ []
theorem dksJ28_setColor_0 : cJ28_setColor.data.toList.drop 0 = dktJ28_setColor_0 := by decide +kernel
theorem dJ28_setColor_0 : decode cJ28_setColor 0 = .ok (.aload_n 0, 1) := dk_42 (dk_at dksJ28_setColor_0 0 rfl rfl)
theorem dJ28_setColor_1 : decode cJ28_setColor 1 = .ok (.ifnull 8, 3) := dk_198 0 8 (dk_at dksJ28_setColor_0 1 rfl rfl)
theorem dJ28_setColor_4 : decode cJ28_setColor 4 = .ok (.aload_n 0, 1) := dk_42 (dk_at dksJ28_setColor_0 4 rfl rfl)
theorem dJ28_setColor_5 : decode cJ28_setColor 5 = .ok (.iload_n 1, 1) := dk_27 (dk_at dksJ28_setColor_0 5 rfl rfl)
theorem dJ28_setColor_6 : decode cJ28_setColor 6 = .ok (.putfield 290, 3) := dk_181 1 34 (dk_at dksJ28_setColor_0 6 rfl rfl)
theorem dJ28_setColor_9 : decode cJ28_setColor 9 = .ok (.return_, 1) := dk_177 (dk_at dksJ28_setColor_0 9 rfl rfl)
abbrev cJ28_rotateLeft : ByteArray := prog_93_method_81_code
def dkwJ28_rotateLeft_4 : List UInt8 := [177]
abbrev dktJ28_rotateLeft_4 : List UInt8 := dkwJ28_rotateLeft_4 ++ []
def dkwJ28_rotateLeft_3 : List UInt8 := [181, 0, 111, 167, 0, 11, 43, 180, 0, 124, 44, 181, 0, 114, 44, 43, 181, 0, 111, 43, 44, 181, 0, 124]
abbrev dktJ28_rotateLeft_3 : List UInt8 := dkwJ28_rotateLeft_3 ++ dktJ28_rotateLeft_4
def dkwJ28_rotateLeft_2 : List UInt8 := [44, 181, 0, 101, 167, 0, 33, 43, 180, 0, 124, 180, 0, 111, 43, 166, 0, 14, 43, 180, 0, 124, 44]
abbrev dktJ28_rotateLeft_2 : List UInt8 := dkwJ28_rotateLeft_2 ++ dktJ28_rotateLeft_3
def dkwJ28_rotateLeft_1 : List UInt8 := [44, 180, 0, 111, 43, 181, 0, 124, 44, 43, 180, 0, 124, 181, 0, 124, 43, 180, 0, 124, 199, 0, 11, 42]
abbrev dktJ28_rotateLeft_1 : List UInt8 := dkwJ28_rotateLeft_1 ++ dktJ28_rotateLeft_2
def dkwJ28_rotateLeft_0 : List UInt8 := [43, 198, 0, 94, 43, 180, 0, 114, 77, 43, 44, 180, 0, 111, 181, 0, 114, 44, 180, 0, 111, 198, 0, 11]
abbrev dktJ28_rotateLeft_0 : List UInt8 := dkwJ28_rotateLeft_0 ++ dktJ28_rotateLeft_1
theorem dksJ28_rotateLeft_0 : cJ28_rotateLeft.data.toList.drop 0 = dktJ28_rotateLeft_0 := by decide +kernel
theorem dksJ28_rotateLeft_1 : cJ28_rotateLeft.data.toList.drop 24 = dktJ28_rotateLeft_1 := dk_seg dksJ28_rotateLeft_0 24 rfl rfl
theorem dksJ28_rotateLeft_2 : cJ28_rotateLeft.data.toList.drop 48 = dktJ28_rotateLeft_2 := dk_seg dksJ28_rotateLeft_1 24 rfl rfl
theorem dksJ28_rotateLeft_3 : cJ28_rotateLeft.data.toList.drop 71 = dktJ28_rotateLeft_3 := dk_seg dksJ28_rotateLeft_2 23 rfl rfl
theorem dksJ28_rotateLeft_4 : cJ28_rotateLeft.data.toList.drop 95 = dktJ28_rotateLeft_4 := dk_seg dksJ28_rotateLeft_3 24 rfl rfl
theorem dJ28_rotateLeft_0 : decode cJ28_rotateLeft 0 = .ok (.aload_n 1, 1) := dk_43 (dk_at dksJ28_rotateLeft_0 0 rfl rfl)
theorem dJ28_rotateLeft_1 : decode cJ28_rotateLeft 1 = .ok (.ifnull 94, 3) := dk_198 0 94 (dk_at dksJ28_rotateLeft_0 1 rfl rfl)
theorem dJ28_rotateLeft_4 : decode cJ28_rotateLeft 4 = .ok (.aload_n 1, 1) := dk_43 (dk_at dksJ28_rotateLeft_0 4 rfl rfl)
theorem dJ28_rotateLeft_5 : decode cJ28_rotateLeft 5 = .ok (.getfield 114, 3) := dk_180 0 114 (dk_at dksJ28_rotateLeft_0 5 rfl rfl)
theorem dJ28_rotateLeft_8 : decode cJ28_rotateLeft 8 = .ok (.astore_n 2, 1) := dk_77 (dk_at dksJ28_rotateLeft_0 8 rfl rfl)
theorem dJ28_rotateLeft_9 : decode cJ28_rotateLeft 9 = .ok (.aload_n 1, 1) := dk_43 (dk_at dksJ28_rotateLeft_0 9 rfl rfl)
theorem dJ28_rotateLeft_10 : decode cJ28_rotateLeft 10 = .ok (.aload_n 2, 1) := dk_44 (dk_at dksJ28_rotateLeft_0 10 rfl rfl)
theorem dJ28_rotateLeft_11 : decode cJ28_rotateLeft 11 = .ok (.getfield 111, 3) := dk_180 0 111 (dk_at dksJ28_rotateLeft_0 11 rfl rfl)
theorem dJ28_rotateLeft_14 : decode cJ28_rotateLeft 14 = .ok (.putfield 114, 3) := dk_181 0 114 (dk_at dksJ28_rotateLeft_0 14 rfl rfl)
theorem dJ28_rotateLeft_17 : decode cJ28_rotateLeft 17 = .ok (.aload_n 2, 1) := dk_44 (dk_at dksJ28_rotateLeft_0 17 rfl rfl)
theorem dJ28_rotateLeft_18 : decode cJ28_rotateLeft 18 = .ok (.getfield 111, 3) := dk_180 0 111 (dk_at dksJ28_rotateLeft_0 18 rfl rfl)
theorem dJ28_rotateLeft_21 : decode cJ28_rotateLeft 21 = .ok (.ifnull 11, 3) := dk_198 0 11 (dk_at dksJ28_rotateLeft_0 21 rfl rfl)
theorem dJ28_rotateLeft_24 : decode cJ28_rotateLeft 24 = .ok (.aload_n 2, 1) := dk_44 (dk_at dksJ28_rotateLeft_1 0 rfl rfl)
theorem dJ28_rotateLeft_25 : decode cJ28_rotateLeft 25 = .ok (.getfield 111, 3) := dk_180 0 111 (dk_at dksJ28_rotateLeft_1 1 rfl rfl)
theorem dJ28_rotateLeft_28 : decode cJ28_rotateLeft 28 = .ok (.aload_n 1, 1) := dk_43 (dk_at dksJ28_rotateLeft_1 4 rfl rfl)
theorem dJ28_rotateLeft_29 : decode cJ28_rotateLeft 29 = .ok (.putfield 124, 3) := dk_181 0 124 (dk_at dksJ28_rotateLeft_1 5 rfl rfl)
theorem dJ28_rotateLeft_32 : decode cJ28_rotateLeft 32 = .ok (.aload_n 2, 1) := dk_44 (dk_at dksJ28_rotateLeft_1 8 rfl rfl)
theorem dJ28_rotateLeft_33 : decode cJ28_rotateLeft 33 = .ok (.aload_n 1, 1) := dk_43 (dk_at dksJ28_rotateLeft_1 9 rfl rfl)
theorem dJ28_rotateLeft_34 : decode cJ28_rotateLeft 34 = .ok (.getfield 124, 3) := dk_180 0 124 (dk_at dksJ28_rotateLeft_1 10 rfl rfl)
theorem dJ28_rotateLeft_37 : decode cJ28_rotateLeft 37 = .ok (.putfield 124, 3) := dk_181 0 124 (dk_at dksJ28_rotateLeft_1 13 rfl rfl)
theorem dJ28_rotateLeft_40 : decode cJ28_rotateLeft 40 = .ok (.aload_n 1, 1) := dk_43 (dk_at dksJ28_rotateLeft_1 16 rfl rfl)
theorem dJ28_rotateLeft_41 : decode cJ28_rotateLeft 41 = .ok (.getfield 124, 3) := dk_180 0 124 (dk_at dksJ28_rotateLeft_1 17 rfl rfl)
theorem dJ28_rotateLeft_44 : decode cJ28_rotateLeft 44 = .ok (.ifnonnull 11, 3) := dk_199 0 11 (dk_at dksJ28_rotateLeft_1 20 rfl rfl)
theorem dJ28_rotateLeft_47 : decode cJ28_rotateLeft 47 = .ok (.aload_n 0, 1) := dk_42 (dk_at dksJ28_rotateLeft_1 23 rfl rfl)
theorem dJ28_rotateLeft_48 : decode cJ28_rotateLeft 48 = .ok (.aload_n 2, 1) := dk_44 (dk_at dksJ28_rotateLeft_2 0 rfl rfl)
theorem dJ28_rotateLeft_49 : decode cJ28_rotateLeft 49 = .ok (.putfield 101, 3) := dk_181 0 101 (dk_at dksJ28_rotateLeft_2 1 rfl rfl)
theorem dJ28_rotateLeft_52 : decode cJ28_rotateLeft 52 = .ok (.goto 33, 3) := dk_167 0 33 (dk_at dksJ28_rotateLeft_2 4 rfl rfl)
theorem dJ28_rotateLeft_55 : decode cJ28_rotateLeft 55 = .ok (.aload_n 1, 1) := dk_43 (dk_at dksJ28_rotateLeft_2 7 rfl rfl)
theorem dJ28_rotateLeft_56 : decode cJ28_rotateLeft 56 = .ok (.getfield 124, 3) := dk_180 0 124 (dk_at dksJ28_rotateLeft_2 8 rfl rfl)
theorem dJ28_rotateLeft_59 : decode cJ28_rotateLeft 59 = .ok (.getfield 111, 3) := dk_180 0 111 (dk_at dksJ28_rotateLeft_2 11 rfl rfl)
theorem dJ28_rotateLeft_62 : decode cJ28_rotateLeft 62 = .ok (.aload_n 1, 1) := dk_43 (dk_at dksJ28_rotateLeft_2 14 rfl rfl)
theorem dJ28_rotateLeft_63 : decode cJ28_rotateLeft 63 = .ok (.if_acmp .ne 14, 3) := dk_166 0 14 (dk_at dksJ28_rotateLeft_2 15 rfl rfl)
theorem dJ28_rotateLeft_66 : decode cJ28_rotateLeft 66 = .ok (.aload_n 1, 1) := dk_43 (dk_at dksJ28_rotateLeft_2 18 rfl rfl)
theorem dJ28_rotateLeft_67 : decode cJ28_rotateLeft 67 = .ok (.getfield 124, 3) := dk_180 0 124 (dk_at dksJ28_rotateLeft_2 19 rfl rfl)
theorem dJ28_rotateLeft_70 : decode cJ28_rotateLeft 70 = .ok (.aload_n 2, 1) := dk_44 (dk_at dksJ28_rotateLeft_2 22 rfl rfl)
theorem dJ28_rotateLeft_71 : decode cJ28_rotateLeft 71 = .ok (.putfield 111, 3) := dk_181 0 111 (dk_at dksJ28_rotateLeft_3 0 rfl rfl)
theorem dJ28_rotateLeft_74 : decode cJ28_rotateLeft 74 = .ok (.goto 11, 3) := dk_167 0 11 (dk_at dksJ28_rotateLeft_3 3 rfl rfl)
theorem dJ28_rotateLeft_77 : decode cJ28_rotateLeft 77 = .ok (.aload_n 1, 1) := dk_43 (dk_at dksJ28_rotateLeft_3 6 rfl rfl)
theorem dJ28_rotateLeft_78 : decode cJ28_rotateLeft 78 = .ok (.getfield 124, 3) := dk_180 0 124 (dk_at dksJ28_rotateLeft_3 7 rfl rfl)
theorem dJ28_rotateLeft_81 : decode cJ28_rotateLeft 81 = .ok (.aload_n 2, 1) := dk_44 (dk_at dksJ28_rotateLeft_3 10 rfl rfl)
theorem dJ28_rotateLeft_82 : decode cJ28_rotateLeft 82 = .ok (.putfield 114, 3) := dk_181 0 114 (dk_at dksJ28_rotateLeft_3 11 rfl rfl)
theorem dJ28_rotateLeft_85 : decode cJ28_rotateLeft 85 = .ok (.aload_n 2, 1) := dk_44 (dk_at dksJ28_rotateLeft_3 14 rfl rfl)
theorem dJ28_rotateLeft_86 : decode cJ28_rotateLeft 86 = .ok (.aload_n 1, 1) := dk_43 (dk_at dksJ28_rotateLeft_3 15 rfl rfl)
theorem dJ28_rotateLeft_87 : decode cJ28_rotateLeft 87 = .ok (.putfield 111, 3) := dk_181 0 111 (dk_at dksJ28_rotateLeft_3 16 rfl rfl)
theorem dJ28_rotateLeft_90 : decode cJ28_rotateLeft 90 = .ok (.aload_n 1, 1) := dk_43 (dk_at dksJ28_rotateLeft_3 19 rfl rfl)
theorem dJ28_rotateLeft_91 : decode cJ28_rotateLeft 91 = .ok (.aload_n 2, 1) := dk_44 (dk_at dksJ28_rotateLeft_3 20 rfl rfl)
theorem dJ28_rotateLeft_92 : decode cJ28_rotateLeft 92 = .ok (.putfield 124, 3) := dk_181 0 124 (dk_at dksJ28_rotateLeft_3 21 rfl rfl)
theorem dJ28_rotateLeft_95 : decode cJ28_rotateLeft 95 = .ok (.return_, 1) := dk_177 (dk_at dksJ28_rotateLeft_4 0 rfl rfl)
abbrev cJ28_rotateRight : ByteArray := prog_93_method_82_code
def dkwJ28_rotateRight_4 : List UInt8 := [177]
abbrev dktJ28_rotateRight_4 : List UInt8 := dkwJ28_rotateRight_4 ++ []
def dkwJ28_rotateRight_3 : List UInt8 := [181, 0, 114, 167, 0, 11, 43, 180, 0, 124, 44, 181, 0, 111, 44, 43, 181, 0, 114, 43, 44, 181, 0, 124]
abbrev dktJ28_rotateRight_3 : List UInt8 := dkwJ28_rotateRight_3 ++ dktJ28_rotateRight_4
def dkwJ28_rotateRight_2 : List UInt8 := [44, 181, 0, 101, 167, 0, 33, 43, 180, 0, 124, 180, 0, 114, 43, 166, 0, 14, 43, 180, 0, 124, 44]
abbrev dktJ28_rotateRight_2 : List UInt8 := dkwJ28_rotateRight_2 ++ dktJ28_rotateRight_3
def dkwJ28_rotateRight_1 : List UInt8 := [44, 180, 0, 114, 43, 181, 0, 124, 44, 43, 180, 0, 124, 181, 0, 124, 43, 180, 0, 124, 199, 0, 11, 42]
abbrev dktJ28_rotateRight_1 : List UInt8 := dkwJ28_rotateRight_1 ++ dktJ28_rotateRight_2
def dkwJ28_rotateRight_0 : List UInt8 := [43, 198, 0, 94, 43, 180, 0, 111, 77, 43, 44, 180, 0, 114, 181, 0, 111, 44, 180, 0, 114, 198, 0, 11]
abbrev dktJ28_rotateRight_0 : List UInt8 := dkwJ28_rotateRight_0 ++ dktJ28_rotateRight_1
theorem dksJ28_rotateRight_0 : cJ28_rotateRight.data.toList.drop 0 = dktJ28_rotateRight_0 := by decide +kernel
theorem dksJ28_rotateRight_1 : cJ28_rotateRight.data.toList.drop 24 = dktJ28_rotateRight_1 := dk_seg dksJ28_rotateRight_0 24 rfl rfl
theorem dksJ28_rotateRight_2 : cJ28_rotateRight.data.toList.drop 48 = dktJ28_rotateRight_2 := dk_seg dksJ28_rotateRight_1 24 rfl rfl
theorem dksJ28_rotateRight_3 : cJ28_rotateRight.data.toList.drop 71 = dktJ28_rotateRight_3 := dk_seg dksJ28_rotateRight_2 23 rfl rfl
theorem dksJ28_rotateRight_4 : cJ28_rotateRight.data.toList.drop 95 = dktJ28_rotateRight_4 := dk_seg dksJ28_rotateRight_3 24 rfl rfl
theorem dJ28_rotateRight_0 : decode cJ28_rotateRight 0 = .ok (.aload_n 1, 1) := dk_43 (dk_at dksJ28_rotateRight_0 0 rfl rfl)
theorem dJ28_rotateRight_1 : decode cJ28_rotateRight 1 = .ok (.ifnull 94, 3) := dk_198 0 94 (dk_at dksJ28_rotateRight_0 1 rfl rfl)
theorem dJ28_rotateRight_4 : decode cJ28_rotateRight 4 = .ok (.aload_n 1, 1) := dk_43 (dk_at dksJ28_rotateRight_0 4 rfl rfl)
theorem dJ28_rotateRight_5 : decode cJ28_rotateRight 5 = .ok (.getfield 111, 3) := dk_180 0 111 (dk_at dksJ28_rotateRight_0 5 rfl rfl)
theorem dJ28_rotateRight_8 : decode cJ28_rotateRight 8 = .ok (.astore_n 2, 1) := dk_77 (dk_at dksJ28_rotateRight_0 8 rfl rfl)
theorem dJ28_rotateRight_9 : decode cJ28_rotateRight 9 = .ok (.aload_n 1, 1) := dk_43 (dk_at dksJ28_rotateRight_0 9 rfl rfl)
theorem dJ28_rotateRight_10 : decode cJ28_rotateRight 10 = .ok (.aload_n 2, 1) := dk_44 (dk_at dksJ28_rotateRight_0 10 rfl rfl)
theorem dJ28_rotateRight_11 : decode cJ28_rotateRight 11 = .ok (.getfield 114, 3) := dk_180 0 114 (dk_at dksJ28_rotateRight_0 11 rfl rfl)
theorem dJ28_rotateRight_14 : decode cJ28_rotateRight 14 = .ok (.putfield 111, 3) := dk_181 0 111 (dk_at dksJ28_rotateRight_0 14 rfl rfl)
theorem dJ28_rotateRight_17 : decode cJ28_rotateRight 17 = .ok (.aload_n 2, 1) := dk_44 (dk_at dksJ28_rotateRight_0 17 rfl rfl)
theorem dJ28_rotateRight_18 : decode cJ28_rotateRight 18 = .ok (.getfield 114, 3) := dk_180 0 114 (dk_at dksJ28_rotateRight_0 18 rfl rfl)
theorem dJ28_rotateRight_21 : decode cJ28_rotateRight 21 = .ok (.ifnull 11, 3) := dk_198 0 11 (dk_at dksJ28_rotateRight_0 21 rfl rfl)
theorem dJ28_rotateRight_24 : decode cJ28_rotateRight 24 = .ok (.aload_n 2, 1) := dk_44 (dk_at dksJ28_rotateRight_1 0 rfl rfl)
theorem dJ28_rotateRight_25 : decode cJ28_rotateRight 25 = .ok (.getfield 114, 3) := dk_180 0 114 (dk_at dksJ28_rotateRight_1 1 rfl rfl)
theorem dJ28_rotateRight_28 : decode cJ28_rotateRight 28 = .ok (.aload_n 1, 1) := dk_43 (dk_at dksJ28_rotateRight_1 4 rfl rfl)
theorem dJ28_rotateRight_29 : decode cJ28_rotateRight 29 = .ok (.putfield 124, 3) := dk_181 0 124 (dk_at dksJ28_rotateRight_1 5 rfl rfl)
theorem dJ28_rotateRight_32 : decode cJ28_rotateRight 32 = .ok (.aload_n 2, 1) := dk_44 (dk_at dksJ28_rotateRight_1 8 rfl rfl)
theorem dJ28_rotateRight_33 : decode cJ28_rotateRight 33 = .ok (.aload_n 1, 1) := dk_43 (dk_at dksJ28_rotateRight_1 9 rfl rfl)
theorem dJ28_rotateRight_34 : decode cJ28_rotateRight 34 = .ok (.getfield 124, 3) := dk_180 0 124 (dk_at dksJ28_rotateRight_1 10 rfl rfl)
theorem dJ28_rotateRight_37 : decode cJ28_rotateRight 37 = .ok (.putfield 124, 3) := dk_181 0 124 (dk_at dksJ28_rotateRight_1 13 rfl rfl)
theorem dJ28_rotateRight_40 : decode cJ28_rotateRight 40 = .ok (.aload_n 1, 1) := dk_43 (dk_at dksJ28_rotateRight_1 16 rfl rfl)
theorem dJ28_rotateRight_41 : decode cJ28_rotateRight 41 = .ok (.getfield 124, 3) := dk_180 0 124 (dk_at dksJ28_rotateRight_1 17 rfl rfl)
theorem dJ28_rotateRight_44 : decode cJ28_rotateRight 44 = .ok (.ifnonnull 11, 3) := dk_199 0 11 (dk_at dksJ28_rotateRight_1 20 rfl rfl)
theorem dJ28_rotateRight_47 : decode cJ28_rotateRight 47 = .ok (.aload_n 0, 1) := dk_42 (dk_at dksJ28_rotateRight_1 23 rfl rfl)
theorem dJ28_rotateRight_48 : decode cJ28_rotateRight 48 = .ok (.aload_n 2, 1) := dk_44 (dk_at dksJ28_rotateRight_2 0 rfl rfl)
theorem dJ28_rotateRight_49 : decode cJ28_rotateRight 49 = .ok (.putfield 101, 3) := dk_181 0 101 (dk_at dksJ28_rotateRight_2 1 rfl rfl)
theorem dJ28_rotateRight_52 : decode cJ28_rotateRight 52 = .ok (.goto 33, 3) := dk_167 0 33 (dk_at dksJ28_rotateRight_2 4 rfl rfl)
theorem dJ28_rotateRight_55 : decode cJ28_rotateRight 55 = .ok (.aload_n 1, 1) := dk_43 (dk_at dksJ28_rotateRight_2 7 rfl rfl)
theorem dJ28_rotateRight_56 : decode cJ28_rotateRight 56 = .ok (.getfield 124, 3) := dk_180 0 124 (dk_at dksJ28_rotateRight_2 8 rfl rfl)
theorem dJ28_rotateRight_59 : decode cJ28_rotateRight 59 = .ok (.getfield 114, 3) := dk_180 0 114 (dk_at dksJ28_rotateRight_2 11 rfl rfl)
theorem dJ28_rotateRight_62 : decode cJ28_rotateRight 62 = .ok (.aload_n 1, 1) := dk_43 (dk_at dksJ28_rotateRight_2 14 rfl rfl)
theorem dJ28_rotateRight_63 : decode cJ28_rotateRight 63 = .ok (.if_acmp .ne 14, 3) := dk_166 0 14 (dk_at dksJ28_rotateRight_2 15 rfl rfl)
theorem dJ28_rotateRight_66 : decode cJ28_rotateRight 66 = .ok (.aload_n 1, 1) := dk_43 (dk_at dksJ28_rotateRight_2 18 rfl rfl)
theorem dJ28_rotateRight_67 : decode cJ28_rotateRight 67 = .ok (.getfield 124, 3) := dk_180 0 124 (dk_at dksJ28_rotateRight_2 19 rfl rfl)
theorem dJ28_rotateRight_70 : decode cJ28_rotateRight 70 = .ok (.aload_n 2, 1) := dk_44 (dk_at dksJ28_rotateRight_2 22 rfl rfl)
theorem dJ28_rotateRight_71 : decode cJ28_rotateRight 71 = .ok (.putfield 114, 3) := dk_181 0 114 (dk_at dksJ28_rotateRight_3 0 rfl rfl)
theorem dJ28_rotateRight_74 : decode cJ28_rotateRight 74 = .ok (.goto 11, 3) := dk_167 0 11 (dk_at dksJ28_rotateRight_3 3 rfl rfl)
theorem dJ28_rotateRight_77 : decode cJ28_rotateRight 77 = .ok (.aload_n 1, 1) := dk_43 (dk_at dksJ28_rotateRight_3 6 rfl rfl)
theorem dJ28_rotateRight_78 : decode cJ28_rotateRight 78 = .ok (.getfield 124, 3) := dk_180 0 124 (dk_at dksJ28_rotateRight_3 7 rfl rfl)
theorem dJ28_rotateRight_81 : decode cJ28_rotateRight 81 = .ok (.aload_n 2, 1) := dk_44 (dk_at dksJ28_rotateRight_3 10 rfl rfl)
theorem dJ28_rotateRight_82 : decode cJ28_rotateRight 82 = .ok (.putfield 111, 3) := dk_181 0 111 (dk_at dksJ28_rotateRight_3 11 rfl rfl)
theorem dJ28_rotateRight_85 : decode cJ28_rotateRight 85 = .ok (.aload_n 2, 1) := dk_44 (dk_at dksJ28_rotateRight_3 14 rfl rfl)
theorem dJ28_rotateRight_86 : decode cJ28_rotateRight 86 = .ok (.aload_n 1, 1) := dk_43 (dk_at dksJ28_rotateRight_3 15 rfl rfl)
theorem dJ28_rotateRight_87 : decode cJ28_rotateRight 87 = .ok (.putfield 114, 3) := dk_181 0 114 (dk_at dksJ28_rotateRight_3 16 rfl rfl)
theorem dJ28_rotateRight_90 : decode cJ28_rotateRight 90 = .ok (.aload_n 1, 1) := dk_43 (dk_at dksJ28_rotateRight_3 19 rfl rfl)
theorem dJ28_rotateRight_91 : decode cJ28_rotateRight 91 = .ok (.aload_n 2, 1) := dk_44 (dk_at dksJ28_rotateRight_3 20 rfl rfl)
theorem dJ28_rotateRight_92 : decode cJ28_rotateRight 92 = .ok (.putfield 124, 3) := dk_181 0 124 (dk_at dksJ28_rotateRight_3 21 rfl rfl)
theorem dJ28_rotateRight_95 : decode cJ28_rotateRight 95 = .ok (.return_, 1) := dk_177 (dk_at dksJ28_rotateRight_4 0 rfl rfl)
abbrev cJ31_next : ByteArray := prog_97_method_2_code
def dkwJ31_next_0 : List UInt8 := [42, 182, 0, 7, 180, 0, 13, 176]
abbrev dktJ31_next_0 : List UInt8 := dkwJ31_next_0 ++ []
theorem dksJ31_next_0 : cJ31_next.data.toList.drop 0 = dktJ31_next_0 := by decide +kernel
theorem dJ31_next_0 : decode cJ31_next 0 = .ok (.aload_n 0, 1) := dk_42 (dk_at dksJ31_next_0 0 rfl rfl)
theorem dJ31_next_1 : decode cJ31_next 1 = .ok (.invokevirtual 7, 3) := dk_182 0 7 (dk_at dksJ31_next_0 1 rfl rfl)
theorem dJ31_next_4 : decode cJ31_next 4 = .ok (.getfield 13, 3) := dk_180 0 13 (dk_at dksJ31_next_0 4 rfl rfl)
theorem dJ31_next_7 : decode cJ31_next 7 = .ok (.areturn, 1) := dk_176 (dk_at dksJ31_next_0 7 rfl rfl)
abbrev cJ31_init : ByteArray := prog_97_method_1_code
def dkwJ31_init_0 : List UInt8 := [42, 43, 44, 183, 0, 1, 177]
abbrev dktJ31_init_0 : List UInt8 := dkwJ31_init_0 ++ []
theorem dksJ31_init_0 : cJ31_init.data.toList.drop 0 = dktJ31_init_0 := by decide +kernel
theorem dJ31_init_0 : decode cJ31_init 0 = .ok (.aload_n 0, 1) := dk_42 (dk_at dksJ31_init_0 0 rfl rfl)
theorem dJ31_init_1 : decode cJ31_init 1 = .ok (.aload_n 1, 1) := dk_43 (dk_at dksJ31_init_0 1 rfl rfl)
theorem dJ31_init_2 : decode cJ31_init 2 = .ok (.aload_n 2, 1) := dk_44 (dk_at dksJ31_init_0 2 rfl rfl)
theorem dJ31_init_3 : decode cJ31_init 3 = .ok (.invokespecial 1, 3) := dk_183 0 1 (dk_at dksJ31_init_0 3 rfl rfl)
theorem dJ31_init_6 : decode cJ31_init 6 = .ok (.return_, 1) := dk_177 (dk_at dksJ31_init_0 6 rfl rfl)
abbrev cJ32_next : ByteArray := prog_101_method_2_code
def dkwJ32_next_0 : List UInt8 := [42, 182, 0, 7, 180, 0, 13, 176]
abbrev dktJ32_next_0 : List UInt8 := dkwJ32_next_0 ++ []
theorem dksJ32_next_0 : cJ32_next.data.toList.drop 0 = dktJ32_next_0 := by decide +kernel
theorem dJ32_next_0 : decode cJ32_next 0 = .ok (.aload_n 0, 1) := dk_42 (dk_at dksJ32_next_0 0 rfl rfl)
theorem dJ32_next_1 : decode cJ32_next 1 = .ok (.invokevirtual 7, 3) := dk_182 0 7 (dk_at dksJ32_next_0 1 rfl rfl)
theorem dJ32_next_4 : decode cJ32_next 4 = .ok (.getfield 13, 3) := dk_180 0 13 (dk_at dksJ32_next_0 4 rfl rfl)
theorem dJ32_next_7 : decode cJ32_next 7 = .ok (.areturn, 1) := dk_176 (dk_at dksJ32_next_0 7 rfl rfl)
abbrev cJ32_init : ByteArray := prog_101_method_1_code
def dkwJ32_init_0 : List UInt8 := [42, 43, 44, 183, 0, 1, 177]
abbrev dktJ32_init_0 : List UInt8 := dkwJ32_init_0 ++ []
theorem dksJ32_init_0 : cJ32_init.data.toList.drop 0 = dktJ32_init_0 := by decide +kernel
theorem dJ32_init_0 : decode cJ32_init 0 = .ok (.aload_n 0, 1) := dk_42 (dk_at dksJ32_init_0 0 rfl rfl)
theorem dJ32_init_1 : decode cJ32_init 1 = .ok (.aload_n 1, 1) := dk_43 (dk_at dksJ32_init_0 1 rfl rfl)
theorem dJ32_init_2 : decode cJ32_init 2 = .ok (.aload_n 2, 1) := dk_44 (dk_at dksJ32_init_0 2 rfl rfl)
theorem dJ32_init_3 : decode cJ32_init 3 = .ok (.invokespecial 1, 3) := dk_183 0 1 (dk_at dksJ32_init_0 3 rfl rfl)
theorem dJ32_init_6 : decode cJ32_init 6 = .ok (.return_, 1) := dk_177 (dk_at dksJ32_init_0 6 rfl rfl)
abbrev cJ16_max : ByteArray := prog_44_method_65_code
def dkwJ16_max_0 : List UInt8 := [26, 27, 161, 0, 7, 26, 167, 0, 4, 27, 172]
abbrev dktJ16_max_0 : List UInt8 := dkwJ16_max_0 ++ []
theorem dksJ16_max_0 : cJ16_max.data.toList.drop 0 = dktJ16_max_0 := by decide +kernel
theorem dJ16_max_0 : decode cJ16_max 0 = .ok (.iload_n 0, 1) := dk_26 (dk_at dksJ16_max_0 0 rfl rfl)
theorem dJ16_max_1 : decode cJ16_max 1 = .ok (.iload_n 1, 1) := dk_27 (dk_at dksJ16_max_0 1 rfl rfl)
theorem dJ16_max_2 : decode cJ16_max 2 = .ok (.if_icmp .lt 7, 3) := dk_161 0 7 (dk_at dksJ16_max_0 2 rfl rfl)
theorem dJ16_max_5 : decode cJ16_max 5 = .ok (.iload_n 0, 1) := dk_26 (dk_at dksJ16_max_0 5 rfl rfl)
theorem dJ16_max_6 : decode cJ16_max 6 = .ok (.goto 4, 3) := dk_167 0 4 (dk_at dksJ16_max_0 6 rfl rfl)
theorem dJ16_max_9 : decode cJ16_max 9 = .ok (.iload_n 1, 1) := dk_27 (dk_at dksJ16_max_0 9 rfl rfl)
theorem dJ16_max_10 : decode cJ16_max 10 = .ok (.ireturn, 1) := dk_172 (dk_at dksJ16_max_0 10 rfl rfl)
abbrev cJ16_min : ByteArray := prog_44_method_69_code
def dkwJ16_min_0 : List UInt8 := [26, 27, 163, 0, 7, 26, 167, 0, 4, 27, 172]
abbrev dktJ16_min_0 : List UInt8 := dkwJ16_min_0 ++ []
theorem dksJ16_min_0 : cJ16_min.data.toList.drop 0 = dktJ16_min_0 := by decide +kernel
theorem dJ16_min_0 : decode cJ16_min 0 = .ok (.iload_n 0, 1) := dk_26 (dk_at dksJ16_min_0 0 rfl rfl)
theorem dJ16_min_1 : decode cJ16_min 1 = .ok (.iload_n 1, 1) := dk_27 (dk_at dksJ16_min_0 1 rfl rfl)
theorem dJ16_min_2 : decode cJ16_min 2 = .ok (.if_icmp .gt 7, 3) := dk_163 0 7 (dk_at dksJ16_min_0 2 rfl rfl)
theorem dJ16_min_5 : decode cJ16_min 5 = .ok (.iload_n 0, 1) := dk_26 (dk_at dksJ16_min_0 5 rfl rfl)
theorem dJ16_min_6 : decode cJ16_min 6 = .ok (.goto 4, 3) := dk_167 0 4 (dk_at dksJ16_min_0 6 rfl rfl)
theorem dJ16_min_9 : decode cJ16_min 9 = .ok (.iload_n 1, 1) := dk_27 (dk_at dksJ16_min_0 9 rfl rfl)
theorem dJ16_min_10 : decode cJ16_min 10 = .ok (.ireturn, 1) := dk_172 (dk_at dksJ16_min_0 10 rfl rfl)
abbrev cJ17_copyOf_2 : ByteArray := prog_69_method_119_code
def dkwJ17_copyOf_2_0 : List UInt8 := [42, 27, 42, 182, 0, 86, 184, 1, 44, 176]
abbrev dktJ17_copyOf_2_0 : List UInt8 := dkwJ17_copyOf_2_0 ++ []
theorem dksJ17_copyOf_2_0 : cJ17_copyOf_2.data.toList.drop 0 = dktJ17_copyOf_2_0 := by decide +kernel
theorem dJ17_copyOf_2_0 : decode cJ17_copyOf_2 0 = .ok (.aload_n 0, 1) := dk_42 (dk_at dksJ17_copyOf_2_0 0 rfl rfl)
theorem dJ17_copyOf_2_1 : decode cJ17_copyOf_2 1 = .ok (.iload_n 1, 1) := dk_27 (dk_at dksJ17_copyOf_2_0 1 rfl rfl)
theorem dJ17_copyOf_2_2 : decode cJ17_copyOf_2 2 = .ok (.aload_n 0, 1) := dk_42 (dk_at dksJ17_copyOf_2_0 2 rfl rfl)
theorem dJ17_copyOf_2_3 : decode cJ17_copyOf_2 3 = .ok (.invokevirtual 86, 3) := dk_182 0 86 (dk_at dksJ17_copyOf_2_0 3 rfl rfl)
theorem dJ17_copyOf_2_6 : decode cJ17_copyOf_2 6 = .ok (.invokestatic 300, 3) := dk_184 1 44 (dk_at dksJ17_copyOf_2_0 6 rfl rfl)
theorem dJ17_copyOf_2_9 : decode cJ17_copyOf_2 9 = .ok (.areturn, 1) := dk_176 (dk_at dksJ17_copyOf_2_0 9 rfl rfl)
abbrev cJ17_copyOf_3 : ByteArray := prog_69_method_120_code
def dkwJ17_copyOf_3_1 : List UInt8 := [78, 42, 3, 45, 3, 42, 190, 27, 184, 1, 48, 184, 0, 150, 45, 176]
abbrev dktJ17_copyOf_3_1 : List UInt8 := dkwJ17_copyOf_3_1 ++ []
def dkwJ17_copyOf_3_0 : List UInt8 := [44, 18, 110, 166, 0, 10, 27, 189, 0, 2, 167, 0, 14, 44, 182, 0, 90, 27, 184, 0, 95, 192, 0, 110]
abbrev dktJ17_copyOf_3_0 : List UInt8 := dkwJ17_copyOf_3_0 ++ dktJ17_copyOf_3_1
theorem dksJ17_copyOf_3_0 : cJ17_copyOf_3.data.toList.drop 0 = dktJ17_copyOf_3_0 := by decide +kernel
theorem dksJ17_copyOf_3_1 : cJ17_copyOf_3.data.toList.drop 24 = dktJ17_copyOf_3_1 := dk_seg dksJ17_copyOf_3_0 24 rfl rfl
theorem dJ17_copyOf_3_0 : decode cJ17_copyOf_3 0 = .ok (.aload_n 2, 1) := dk_44 (dk_at dksJ17_copyOf_3_0 0 rfl rfl)
theorem dJ17_copyOf_3_1 : decode cJ17_copyOf_3 1 = .ok (.ldc 110, 2) := dk_18 110 (dk_at dksJ17_copyOf_3_0 1 rfl rfl)
theorem dJ17_copyOf_3_3 : decode cJ17_copyOf_3 3 = .ok (.if_acmp .ne 10, 3) := dk_166 0 10 (dk_at dksJ17_copyOf_3_0 3 rfl rfl)
theorem dJ17_copyOf_3_6 : decode cJ17_copyOf_3 6 = .ok (.iload_n 1, 1) := dk_27 (dk_at dksJ17_copyOf_3_0 6 rfl rfl)
theorem dJ17_copyOf_3_7 : decode cJ17_copyOf_3 7 = .ok (.anewarray 2, 3) := dk_189 0 2 (dk_at dksJ17_copyOf_3_0 7 rfl rfl)
theorem dJ17_copyOf_3_10 : decode cJ17_copyOf_3 10 = .ok (.goto 14, 3) := dk_167 0 14 (dk_at dksJ17_copyOf_3_0 10 rfl rfl)
theorem dJ17_copyOf_3_13 : decode cJ17_copyOf_3 13 = .ok (.aload_n 2, 1) := dk_44 (dk_at dksJ17_copyOf_3_0 13 rfl rfl)
theorem dJ17_copyOf_3_14 : decode cJ17_copyOf_3 14 = .ok (.invokevirtual 90, 3) := dk_182 0 90 (dk_at dksJ17_copyOf_3_0 14 rfl rfl)
theorem dJ17_copyOf_3_24 : decode cJ17_copyOf_3 24 = .ok (.astore_n 3, 1) := dk_78 (dk_at dksJ17_copyOf_3_1 0 rfl rfl)
theorem dJ17_copyOf_3_25 : decode cJ17_copyOf_3 25 = .ok (.aload_n 0, 1) := dk_42 (dk_at dksJ17_copyOf_3_1 1 rfl rfl)
theorem dJ17_copyOf_3_26 : decode cJ17_copyOf_3 26 = .ok (.iconst 0, 1) := dk_3 (dk_at dksJ17_copyOf_3_1 2 rfl rfl)
theorem dJ17_copyOf_3_27 : decode cJ17_copyOf_3 27 = .ok (.aload_n 3, 1) := dk_45 (dk_at dksJ17_copyOf_3_1 3 rfl rfl)
theorem dJ17_copyOf_3_28 : decode cJ17_copyOf_3 28 = .ok (.iconst 0, 1) := dk_3 (dk_at dksJ17_copyOf_3_1 4 rfl rfl)
theorem dJ17_copyOf_3_29 : decode cJ17_copyOf_3 29 = .ok (.aload_n 0, 1) := dk_42 (dk_at dksJ17_copyOf_3_1 5 rfl rfl)
theorem dJ17_copyOf_3_30 : decode cJ17_copyOf_3 30 = .ok (.arraylength, 1) := dk_190 (dk_at dksJ17_copyOf_3_1 6 rfl rfl)
theorem dJ17_copyOf_3_31 : decode cJ17_copyOf_3 31 = .ok (.iload_n 1, 1) := dk_27 (dk_at dksJ17_copyOf_3_1 7 rfl rfl)
theorem dJ17_copyOf_3_32 : decode cJ17_copyOf_3 32 = .ok (.invokestatic 304, 3) := dk_184 1 48 (dk_at dksJ17_copyOf_3_1 8 rfl rfl)
theorem dJ17_copyOf_3_35 : decode cJ17_copyOf_3 35 = .ok (.invokestatic 150, 3) := dk_184 0 150 (dk_at dksJ17_copyOf_3_1 11 rfl rfl)
theorem dJ17_copyOf_3_38 : decode cJ17_copyOf_3 38 = .ok (.aload_n 3, 1) := dk_45 (dk_at dksJ17_copyOf_3_1 14 rfl rfl)
theorem dJ17_copyOf_3_39 : decode cJ17_copyOf_3 39 = .ok (.areturn, 1) := dk_176 (dk_at dksJ17_copyOf_3_1 15 rfl rfl)
abbrev cJ15_newLength : ByteArray := prog_106_method_27_code
def dkwJ15_newLength_1 : List UInt8 := [184, 0, 201, 172]
abbrev dktJ15_newLength_1 : List UInt8 := dkwJ15_newLength_1 ++ []
def dkwJ15_newLength_0 : List UInt8 := [26, 27, 28, 184, 0, 194, 96, 62, 3, 29, 162, 0, 11, 29, 18, 200, 163, 0, 5, 29, 172, 26, 27]
abbrev dktJ15_newLength_0 : List UInt8 := dkwJ15_newLength_0 ++ dktJ15_newLength_1
theorem dksJ15_newLength_0 : cJ15_newLength.data.toList.drop 0 = dktJ15_newLength_0 := by decide +kernel
theorem dksJ15_newLength_1 : cJ15_newLength.data.toList.drop 23 = dktJ15_newLength_1 := dk_seg dksJ15_newLength_0 23 rfl rfl
theorem dJ15_newLength_0 : decode cJ15_newLength 0 = .ok (.iload_n 0, 1) := dk_26 (dk_at dksJ15_newLength_0 0 rfl rfl)
theorem dJ15_newLength_1 : decode cJ15_newLength 1 = .ok (.iload_n 1, 1) := dk_27 (dk_at dksJ15_newLength_0 1 rfl rfl)
theorem dJ15_newLength_2 : decode cJ15_newLength 2 = .ok (.iload_n 2, 1) := dk_28 (dk_at dksJ15_newLength_0 2 rfl rfl)
theorem dJ15_newLength_3 : decode cJ15_newLength 3 = .ok (.invokestatic 194, 3) := dk_184 0 194 (dk_at dksJ15_newLength_0 3 rfl rfl)
theorem dJ15_newLength_6 : decode cJ15_newLength 6 = .ok (.iadd, 1) := dk_96 (dk_at dksJ15_newLength_0 6 rfl rfl)
theorem dJ15_newLength_7 : decode cJ15_newLength 7 = .ok (.istore_n 3, 1) := dk_62 (dk_at dksJ15_newLength_0 7 rfl rfl)
theorem dJ15_newLength_8 : decode cJ15_newLength 8 = .ok (.iconst 0, 1) := dk_3 (dk_at dksJ15_newLength_0 8 rfl rfl)
theorem dJ15_newLength_9 : decode cJ15_newLength 9 = .ok (.iload_n 3, 1) := dk_29 (dk_at dksJ15_newLength_0 9 rfl rfl)
theorem dJ15_newLength_10 : decode cJ15_newLength 10 = .ok (.if_icmp .ge 11, 3) := dk_162 0 11 (dk_at dksJ15_newLength_0 10 rfl rfl)
theorem dJ15_newLength_13 : decode cJ15_newLength 13 = .ok (.iload_n 3, 1) := dk_29 (dk_at dksJ15_newLength_0 13 rfl rfl)
theorem dJ15_newLength_14 : decode cJ15_newLength 14 = .ok (.ldc 200, 2) := dk_18 200 (dk_at dksJ15_newLength_0 14 rfl rfl)
theorem dJ15_newLength_16 : decode cJ15_newLength 16 = .ok (.if_icmp .gt 5, 3) := dk_163 0 5 (dk_at dksJ15_newLength_0 16 rfl rfl)
theorem dJ15_newLength_19 : decode cJ15_newLength 19 = .ok (.iload_n 3, 1) := dk_29 (dk_at dksJ15_newLength_0 19 rfl rfl)
theorem dJ15_newLength_20 : decode cJ15_newLength 20 = .ok (.ireturn, 1) := dk_172 (dk_at dksJ15_newLength_0 20 rfl rfl)
theorem dJ15_newLength_21 : decode cJ15_newLength 21 = .ok (.iload_n 0, 1) := dk_26 (dk_at dksJ15_newLength_0 21 rfl rfl)
theorem dJ15_newLength_22 : decode cJ15_newLength 22 = .ok (.iload_n 1, 1) := dk_27 (dk_at dksJ15_newLength_0 22 rfl rfl)
theorem dJ15_newLength_23 : decode cJ15_newLength 23 = .ok (.invokestatic 201, 3) := dk_184 0 201 (dk_at dksJ15_newLength_1 0 rfl rfl)
theorem dJ15_newLength_26 : decode cJ15_newLength 26 = .ok (.ireturn, 1) := dk_172 (dk_at dksJ15_newLength_1 3 rfl rfl)
abbrev cJ15_hugeLength : ByteArray := prog_106_method_28_code
def dkwJ15_hugeLength_2 : List UInt8 := [191, 28, 18, 200, 163, 0, 6, 18, 200, 172, 28, 172]
abbrev dktJ15_hugeLength_2 : List UInt8 := dkwJ15_hugeLength_2 ++ []
def dkwJ15_hugeLength_1 : List UInt8 := [26, 182, 0, 98, 18, 208, 182, 0, 94, 27, 182, 0, 98, 18, 210, 182, 0, 94, 182, 0, 101, 183, 0, 212]
abbrev dktJ15_hugeLength_1 : List UInt8 := dkwJ15_hugeLength_1 ++ dktJ15_hugeLength_2
def dkwJ15_hugeLength_0 : List UInt8 := [26, 27, 96, 61, 28, 156, 0, 44, 187, 0, 204, 89, 187, 0, 89, 89, 183, 0, 91, 18, 206, 182, 0, 94]
abbrev dktJ15_hugeLength_0 : List UInt8 := dkwJ15_hugeLength_0 ++ dktJ15_hugeLength_1
theorem dksJ15_hugeLength_0 : cJ15_hugeLength.data.toList.drop 0 = dktJ15_hugeLength_0 := by decide +kernel
theorem dksJ15_hugeLength_1 : cJ15_hugeLength.data.toList.drop 24 = dktJ15_hugeLength_1 := dk_seg dksJ15_hugeLength_0 24 rfl rfl
theorem dksJ15_hugeLength_2 : cJ15_hugeLength.data.toList.drop 48 = dktJ15_hugeLength_2 := dk_seg dksJ15_hugeLength_1 24 rfl rfl
theorem dJ15_hugeLength_0 : decode cJ15_hugeLength 0 = .ok (.iload_n 0, 1) := dk_26 (dk_at dksJ15_hugeLength_0 0 rfl rfl)
theorem dJ15_hugeLength_1 : decode cJ15_hugeLength 1 = .ok (.iload_n 1, 1) := dk_27 (dk_at dksJ15_hugeLength_0 1 rfl rfl)
theorem dJ15_hugeLength_2 : decode cJ15_hugeLength 2 = .ok (.iadd, 1) := dk_96 (dk_at dksJ15_hugeLength_0 2 rfl rfl)
theorem dJ15_hugeLength_3 : decode cJ15_hugeLength 3 = .ok (.istore_n 2, 1) := dk_61 (dk_at dksJ15_hugeLength_0 3 rfl rfl)
theorem dJ15_hugeLength_4 : decode cJ15_hugeLength 4 = .ok (.iload_n 2, 1) := dk_28 (dk_at dksJ15_hugeLength_0 4 rfl rfl)
theorem dJ15_hugeLength_5 : decode cJ15_hugeLength 5 = .ok (.ifCond .ge 44, 3) := dk_156 0 44 (dk_at dksJ15_hugeLength_0 5 rfl rfl)
theorem dJ15_hugeLength_8 : decode cJ15_hugeLength 8 = .ok (.new 204, 3) := dk_187 0 204 (dk_at dksJ15_hugeLength_0 8 rfl rfl)
theorem dJ15_hugeLength_49 : decode cJ15_hugeLength 49 = .ok (.iload_n 2, 1) := dk_28 (dk_at dksJ15_hugeLength_2 1 rfl rfl)
theorem dJ15_hugeLength_50 : decode cJ15_hugeLength 50 = .ok (.ldc 200, 2) := dk_18 200 (dk_at dksJ15_hugeLength_2 2 rfl rfl)
theorem dJ15_hugeLength_52 : decode cJ15_hugeLength 52 = .ok (.if_icmp .gt 6, 3) := dk_163 0 6 (dk_at dksJ15_hugeLength_2 4 rfl rfl)
theorem dJ15_hugeLength_55 : decode cJ15_hugeLength 55 = .ok (.ldc 200, 2) := dk_18 200 (dk_at dksJ15_hugeLength_2 7 rfl rfl)
theorem dJ15_hugeLength_57 : decode cJ15_hugeLength 57 = .ok (.ireturn, 1) := dk_172 (dk_at dksJ15_hugeLength_2 9 rfl rfl)
theorem dJ15_hugeLength_58 : decode cJ15_hugeLength 58 = .ok (.iload_n 2, 1) := dk_28 (dk_at dksJ15_hugeLength_2 10 rfl rfl)
theorem dJ15_hugeLength_59 : decode cJ15_hugeLength 59 = .ok (.ireturn, 1) := dk_172 (dk_at dksJ15_hugeLength_2 11 rfl rfl)
abbrev cJ27_init : ByteArray := prog_63_method_1_code
theorem dJ27_init_0 : decode cJ27_init 0 = .ok (.aload_n 0, 1) := by decide +kernel
theorem dJ27_init_1 : decode cJ27_init 1 = .ok (.invokespecial 1, 3) := by decide +kernel
theorem dJ27_init_4 : decode cJ27_init 4 = .ok (.return_, 1) := by decide +kernel
abbrev cJ34_init : ByteArray := prog_65_method_1_code
theorem dJ34_init_0 : decode cJ34_init 0 = .ok (.aload_n 0, 1) := by decide +kernel
theorem dJ34_init_1 : decode cJ34_init 1 = .ok (.invokespecial 1, 3) := by decide +kernel
theorem dJ34_init_4 : decode cJ34_init 4 = .ok (.return_, 1) := by decide +kernel
abbrev cJ35_iterator : ByteArray := prog_98_method_2_code
def dkwJ35_iterator_1 : List UInt8 := [180, 0, 7, 192, 0, 19, 182, 0, 21, 176]
abbrev dktJ35_iterator_1 : List UInt8 := dkwJ35_iterator_1 ++ []
def dkwJ35_iterator_0 : List UInt8 := [42, 180, 0, 7, 193, 0, 13, 153, 0, 14, 42, 180, 0, 7, 192, 0, 13, 182, 0, 15, 176, 42]
abbrev dktJ35_iterator_0 : List UInt8 := dkwJ35_iterator_0 ++ dktJ35_iterator_1
theorem dksJ35_iterator_0 : cJ35_iterator.data.toList.drop 0 = dktJ35_iterator_0 := by decide +kernel
theorem dksJ35_iterator_1 : cJ35_iterator.data.toList.drop 22 = dktJ35_iterator_1 := dk_seg dksJ35_iterator_0 22 rfl rfl
theorem dJ35_iterator_0 : decode cJ35_iterator 0 = .ok (.aload_n 0, 1) := dk_42 (dk_at dksJ35_iterator_0 0 rfl rfl)
theorem dJ35_iterator_1 : decode cJ35_iterator 1 = .ok (.getfield 7, 3) := dk_180 0 7 (dk_at dksJ35_iterator_0 1 rfl rfl)
theorem dJ35_iterator_4 : decode cJ35_iterator 4 = .ok (.instanceof 13, 3) := dk_193 0 13 (dk_at dksJ35_iterator_0 4 rfl rfl)
theorem dJ35_iterator_7 : decode cJ35_iterator 7 = .ok (.ifCond .eq 14, 3) := dk_153 0 14 (dk_at dksJ35_iterator_0 7 rfl rfl)
theorem dJ35_iterator_10 : decode cJ35_iterator 10 = .ok (.aload_n 0, 1) := dk_42 (dk_at dksJ35_iterator_0 10 rfl rfl)
theorem dJ35_iterator_11 : decode cJ35_iterator 11 = .ok (.getfield 7, 3) := dk_180 0 7 (dk_at dksJ35_iterator_0 11 rfl rfl)
theorem dJ35_iterator_14 : decode cJ35_iterator 14 = .ok (.checkcast 13, 3) := dk_192 0 13 (dk_at dksJ35_iterator_0 14 rfl rfl)
theorem dJ35_iterator_17 : decode cJ35_iterator 17 = .ok (.invokevirtual 15, 3) := dk_182 0 15 (dk_at dksJ35_iterator_0 17 rfl rfl)
theorem dJ35_iterator_20 : decode cJ35_iterator 20 = .ok (.areturn, 1) := dk_176 (dk_at dksJ35_iterator_0 20 rfl rfl)
theorem dJ35_iterator_21 : decode cJ35_iterator 21 = .ok (.aload_n 0, 1) := dk_42 (dk_at dksJ35_iterator_0 21 rfl rfl)
theorem dJ35_iterator_22 : decode cJ35_iterator 22 = .ok (.getfield 7, 3) := dk_180 0 7 (dk_at dksJ35_iterator_1 0 rfl rfl)
theorem dJ35_iterator_25 : decode cJ35_iterator 25 = .ok (.checkcast 19, 3) := dk_192 0 19 (dk_at dksJ35_iterator_1 3 rfl rfl)
theorem dJ35_iterator_28 : decode cJ35_iterator 28 = .ok (.invokevirtual 21, 3) := dk_182 0 21 (dk_at dksJ35_iterator_1 6 rfl rfl)
abbrev cJ35_init : ByteArray := prog_98_method_1_code
def dkwJ35_init_0 : List UInt8 := [42, 183, 0, 1, 42, 43, 181, 0, 7, 177]
abbrev dktJ35_init_0 : List UInt8 := dkwJ35_init_0 ++ []
theorem dksJ35_init_0 : cJ35_init.data.toList.drop 0 = dktJ35_init_0 := by decide +kernel
theorem dJ35_init_0 : decode cJ35_init 0 = .ok (.aload_n 0, 1) := dk_42 (dk_at dksJ35_init_0 0 rfl rfl)
theorem dJ35_init_1 : decode cJ35_init 1 = .ok (.invokespecial 1, 3) := dk_183 0 1 (dk_at dksJ35_init_0 1 rfl rfl)
theorem dJ35_init_4 : decode cJ35_init 4 = .ok (.aload_n 0, 1) := dk_42 (dk_at dksJ35_init_0 4 rfl rfl)
theorem dJ35_init_5 : decode cJ35_init 5 = .ok (.aload_n 1, 1) := dk_43 (dk_at dksJ35_init_0 5 rfl rfl)
theorem dJ35_init_6 : decode cJ35_init 6 = .ok (.putfield 7, 3) := dk_181 0 7 (dk_at dksJ35_init_0 6 rfl rfl)
theorem dJ35_init_9 : decode cJ35_init 9 = .ok (.return_, 1) := dk_177 (dk_at dksJ35_init_0 9 rfl rfl)
abbrev cJ21_intValue : ByteArray := prog_40_method_27_code
theorem dJ21_intValue_0 : decode cJ21_intValue 0 = .ok (.aload_n 0, 1) := by decide +kernel
theorem dJ21_intValue_1 : decode cJ21_intValue 1 = .ok (.getfield 205, 3) := by decide +kernel
theorem dJ21_intValue_4 : decode cJ21_intValue 4 = .ok (.ireturn, 1) := by decide +kernel
abbrev cJ21_valueOf : ByteArray := prog_40_method_22_code
def dkwJ21_valueOf_1 : List UInt8 := [187, 0, 1, 89, 26, 183, 0, 199, 176]
abbrev dktJ21_valueOf_1 : List UInt8 := dkwJ21_valueOf_1 ++ []
def dkwJ21_valueOf_0 : List UInt8 := [26, 16, 128, 161, 0, 20, 26, 178, 0, 191, 163, 0, 13, 178, 0, 195, 26, 17, 0, 128, 96, 50, 176]
abbrev dktJ21_valueOf_0 : List UInt8 := dkwJ21_valueOf_0 ++ dktJ21_valueOf_1
theorem dksJ21_valueOf_0 : cJ21_valueOf.data.toList.drop 0 = dktJ21_valueOf_0 := by decide +kernel
theorem dksJ21_valueOf_1 : cJ21_valueOf.data.toList.drop 23 = dktJ21_valueOf_1 := dk_seg dksJ21_valueOf_0 23 rfl rfl
theorem dJ21_valueOf_0 : decode cJ21_valueOf 0 = .ok (.iload_n 0, 1) := dk_26 (dk_at dksJ21_valueOf_0 0 rfl rfl)
theorem dJ21_valueOf_1 : decode cJ21_valueOf 1 = .ok (.bipush (-128), 2) := dk_16 128 (dk_at dksJ21_valueOf_0 1 rfl rfl)
theorem dJ21_valueOf_3 : decode cJ21_valueOf 3 = .ok (.if_icmp .lt 20, 3) := dk_161 0 20 (dk_at dksJ21_valueOf_0 3 rfl rfl)
theorem dJ21_valueOf_6 : decode cJ21_valueOf 6 = .ok (.iload_n 0, 1) := dk_26 (dk_at dksJ21_valueOf_0 6 rfl rfl)
theorem dJ21_valueOf_7 : decode cJ21_valueOf 7 = .ok (.getstatic 191, 3) := dk_178 0 191 (dk_at dksJ21_valueOf_0 7 rfl rfl)
theorem dJ21_valueOf_10 : decode cJ21_valueOf 10 = .ok (.if_icmp .gt 13, 3) := dk_163 0 13 (dk_at dksJ21_valueOf_0 10 rfl rfl)
theorem dJ21_valueOf_13 : decode cJ21_valueOf 13 = .ok (.getstatic 195, 3) := dk_178 0 195 (dk_at dksJ21_valueOf_0 13 rfl rfl)
theorem dJ21_valueOf_16 : decode cJ21_valueOf 16 = .ok (.iload_n 0, 1) := dk_26 (dk_at dksJ21_valueOf_0 16 rfl rfl)
theorem dJ21_valueOf_17 : decode cJ21_valueOf 17 = .ok (.sipush 128, 3) := dk_17 0 128 (dk_at dksJ21_valueOf_0 17 rfl rfl)
theorem dJ21_valueOf_20 : decode cJ21_valueOf 20 = .ok (.iadd, 1) := dk_96 (dk_at dksJ21_valueOf_0 20 rfl rfl)
theorem dJ21_valueOf_21 : decode cJ21_valueOf 21 = .ok (.aaload, 1) := dk_50 (dk_at dksJ21_valueOf_0 21 rfl rfl)
theorem dJ21_valueOf_22 : decode cJ21_valueOf 22 = .ok (.areturn, 1) := dk_176 (dk_at dksJ21_valueOf_0 22 rfl rfl)
theorem dJ21_valueOf_23 : decode cJ21_valueOf 23 = .ok (.new 1, 3) := dk_187 0 1 (dk_at dksJ21_valueOf_1 0 rfl rfl)
theorem dJ21_valueOf_26 : decode cJ21_valueOf 26 = .ok (.dup, 1) := dk_89 (dk_at dksJ21_valueOf_1 3 rfl rfl)
theorem dJ21_valueOf_27 : decode cJ21_valueOf 27 = .ok (.iload_n 0, 1) := dk_26 (dk_at dksJ21_valueOf_1 4 rfl rfl)
theorem dJ21_valueOf_28 : decode cJ21_valueOf 28 = .ok (.invokespecial 199, 3) := dk_183 0 199 (dk_at dksJ21_valueOf_1 5 rfl rfl)
theorem dJ21_valueOf_31 : decode cJ21_valueOf 31 = .ok (.areturn, 1) := dk_176 (dk_at dksJ21_valueOf_1 8 rfl rfl)
abbrev cJ21_init : ByteArray := prog_40_method_23_code
def dkwJ21_init_0 : List UInt8 := [42, 183, 0, 202, 42, 27, 181, 0, 205, 177]
abbrev dktJ21_init_0 : List UInt8 := dkwJ21_init_0 ++ []
theorem dksJ21_init_0 : cJ21_init.data.toList.drop 0 = dktJ21_init_0 := by decide +kernel
theorem dJ21_init_0 : decode cJ21_init 0 = .ok (.aload_n 0, 1) := dk_42 (dk_at dksJ21_init_0 0 rfl rfl)
theorem dJ21_init_1 : decode cJ21_init 1 = .ok (.invokespecial 202, 3) := dk_183 0 202 (dk_at dksJ21_init_0 1 rfl rfl)
theorem dJ21_init_4 : decode cJ21_init 4 = .ok (.aload_n 0, 1) := dk_42 (dk_at dksJ21_init_0 4 rfl rfl)
theorem dJ21_init_5 : decode cJ21_init 5 = .ok (.iload_n 1, 1) := dk_27 (dk_at dksJ21_init_0 5 rfl rfl)
theorem dJ21_init_6 : decode cJ21_init 6 = .ok (.putfield 205, 3) := dk_181 0 205 (dk_at dksJ21_init_0 6 rfl rfl)
theorem dJ21_init_9 : decode cJ21_init 9 = .ok (.return_, 1) := dk_177 (dk_at dksJ21_init_0 9 rfl rfl)
abbrev cJ21_compareTo : ByteArray := prog_40_method_63_code
def dkwJ21_compareTo_0 : List UInt8 := [42, 43, 192, 0, 1, 182, 1, 28, 172]
abbrev dktJ21_compareTo_0 : List UInt8 := dkwJ21_compareTo_0 ++ []
theorem dksJ21_compareTo_0 : cJ21_compareTo.data.toList.drop 0 = dktJ21_compareTo_0 := by decide +kernel
theorem dJ21_compareTo_0 : decode cJ21_compareTo 0 = .ok (.aload_n 0, 1) := dk_42 (dk_at dksJ21_compareTo_0 0 rfl rfl)
theorem dJ21_compareTo_1 : decode cJ21_compareTo 1 = .ok (.aload_n 1, 1) := dk_43 (dk_at dksJ21_compareTo_0 1 rfl rfl)
theorem dJ21_compareTo_2 : decode cJ21_compareTo 2 = .ok (.checkcast 1, 3) := dk_192 0 1 (dk_at dksJ21_compareTo_0 2 rfl rfl)
theorem dJ21_compareTo_5 : decode cJ21_compareTo 5 = .ok (.invokevirtual 284, 3) := dk_182 1 28 (dk_at dksJ21_compareTo_0 5 rfl rfl)
theorem dJ21_compareTo_8 : decode cJ21_compareTo 8 = .ok (.ireturn, 1) := dk_172 (dk_at dksJ21_compareTo_0 8 rfl rfl)
abbrev cJ21_compareTo_2 : ByteArray := prog_40_method_39_code
def dkwJ21_compareTo_2_0 : List UInt8 := [42, 180, 0, 205, 43, 180, 0, 205, 184, 1, 3, 172]
abbrev dktJ21_compareTo_2_0 : List UInt8 := dkwJ21_compareTo_2_0 ++ []
theorem dksJ21_compareTo_2_0 : cJ21_compareTo_2.data.toList.drop 0 = dktJ21_compareTo_2_0 := by decide +kernel
theorem dJ21_compareTo_2_0 : decode cJ21_compareTo_2 0 = .ok (.aload_n 0, 1) := dk_42 (dk_at dksJ21_compareTo_2_0 0 rfl rfl)
theorem dJ21_compareTo_2_1 : decode cJ21_compareTo_2 1 = .ok (.getfield 205, 3) := dk_180 0 205 (dk_at dksJ21_compareTo_2_0 1 rfl rfl)
theorem dJ21_compareTo_2_4 : decode cJ21_compareTo_2 4 = .ok (.aload_n 1, 1) := dk_43 (dk_at dksJ21_compareTo_2_0 4 rfl rfl)
theorem dJ21_compareTo_2_5 : decode cJ21_compareTo_2 5 = .ok (.getfield 205, 3) := dk_180 0 205 (dk_at dksJ21_compareTo_2_0 5 rfl rfl)
theorem dJ21_compareTo_2_8 : decode cJ21_compareTo_2 8 = .ok (.invokestatic 259, 3) := dk_184 1 3 (dk_at dksJ21_compareTo_2_0 8 rfl rfl)
theorem dJ21_compareTo_2_11 : decode cJ21_compareTo_2 11 = .ok (.ireturn, 1) := dk_172 (dk_at dksJ21_compareTo_2_0 11 rfl rfl)
abbrev cJ21_compare : ByteArray := prog_40_method_40_code
def dkwJ21_compare_0 : List UInt8 := [26, 27, 162, 0, 7, 2, 167, 0, 13, 26, 27, 160, 0, 7, 3, 167, 0, 4, 4, 172]
abbrev dktJ21_compare_0 : List UInt8 := dkwJ21_compare_0 ++ []
theorem dksJ21_compare_0 : cJ21_compare.data.toList.drop 0 = dktJ21_compare_0 := by decide +kernel
theorem dJ21_compare_0 : decode cJ21_compare 0 = .ok (.iload_n 0, 1) := dk_26 (dk_at dksJ21_compare_0 0 rfl rfl)
theorem dJ21_compare_1 : decode cJ21_compare 1 = .ok (.iload_n 1, 1) := dk_27 (dk_at dksJ21_compare_0 1 rfl rfl)
theorem dJ21_compare_2 : decode cJ21_compare 2 = .ok (.if_icmp .ge 7, 3) := dk_162 0 7 (dk_at dksJ21_compare_0 2 rfl rfl)
theorem dJ21_compare_5 : decode cJ21_compare 5 = .ok (.iconst (-1), 1) := dk_2 (dk_at dksJ21_compare_0 5 rfl rfl)
theorem dJ21_compare_6 : decode cJ21_compare 6 = .ok (.goto 13, 3) := dk_167 0 13 (dk_at dksJ21_compare_0 6 rfl rfl)
theorem dJ21_compare_9 : decode cJ21_compare 9 = .ok (.iload_n 0, 1) := dk_26 (dk_at dksJ21_compare_0 9 rfl rfl)
theorem dJ21_compare_10 : decode cJ21_compare 10 = .ok (.iload_n 1, 1) := dk_27 (dk_at dksJ21_compare_0 10 rfl rfl)
theorem dJ21_compare_11 : decode cJ21_compare 11 = .ok (.if_icmp .ne 7, 3) := dk_160 0 7 (dk_at dksJ21_compare_0 11 rfl rfl)
theorem dJ21_compare_14 : decode cJ21_compare 14 = .ok (.iconst 0, 1) := dk_3 (dk_at dksJ21_compare_0 14 rfl rfl)
theorem dJ21_compare_15 : decode cJ21_compare 15 = .ok (.goto 4, 3) := dk_167 0 4 (dk_at dksJ21_compare_0 15 rfl rfl)
theorem dJ21_compare_18 : decode cJ21_compare 18 = .ok (.iconst 1, 1) := dk_4 (dk_at dksJ21_compare_0 18 rfl rfl)
theorem dJ21_compare_19 : decode cJ21_compare 19 = .ok (.ireturn, 1) := dk_172 (dk_at dksJ21_compare_0 19 rfl rfl)
abbrev cJ20_init : ByteArray := prog_45_method_1_code
theorem dJ20_init_0 : decode cJ20_init 0 = .ok (.aload_n 0, 1) := by decide +kernel
theorem dJ20_init_1 : decode cJ20_init 1 = .ok (.invokespecial 1, 3) := by decide +kernel
theorem dJ20_init_4 : decode cJ20_init 4 = .ok (.return_, 1) := by decide +kernel
abbrev cJ25_checkIndex : ByteArray := prog_84_method_17_code
def dkwJ25_checkIndex_0 : List UInt8 := [26, 27, 1, 184, 0, 105, 172]
abbrev dktJ25_checkIndex_0 : List UInt8 := dkwJ25_checkIndex_0 ++ []
theorem dksJ25_checkIndex_0 : cJ25_checkIndex.data.toList.drop 0 = dktJ25_checkIndex_0 := by decide +kernel
theorem dJ25_checkIndex_0 : decode cJ25_checkIndex 0 = .ok (.iload_n 0, 1) := dk_26 (dk_at dksJ25_checkIndex_0 0 rfl rfl)
theorem dJ25_checkIndex_1 : decode cJ25_checkIndex 1 = .ok (.iload_n 1, 1) := dk_27 (dk_at dksJ25_checkIndex_0 1 rfl rfl)
theorem dJ25_checkIndex_2 : decode cJ25_checkIndex 2 = .ok (.aconst_null, 1) := dk_1 (dk_at dksJ25_checkIndex_0 2 rfl rfl)
theorem dJ25_checkIndex_3 : decode cJ25_checkIndex 3 = .ok (.invokestatic 105, 3) := dk_184 0 105 (dk_at dksJ25_checkIndex_0 3 rfl rfl)
theorem dJ25_checkIndex_6 : decode cJ25_checkIndex 6 = .ok (.ireturn, 1) := dk_172 (dk_at dksJ25_checkIndex_0 6 rfl rfl)
abbrev cJ25_requireNonNull : ByteArray := prog_84_method_10_code
def dkwJ25_requireNonNull_0 : List UInt8 := [42, 199, 0, 11, 187, 0, 84, 89, 183, 0, 86, 191, 42, 176]
abbrev dktJ25_requireNonNull_0 : List UInt8 := dkwJ25_requireNonNull_0 ++ []
theorem dksJ25_requireNonNull_0 : cJ25_requireNonNull.data.toList.drop 0 = dktJ25_requireNonNull_0 := by decide +kernel
theorem dJ25_requireNonNull_0 : decode cJ25_requireNonNull 0 = .ok (.aload_n 0, 1) := dk_42 (dk_at dksJ25_requireNonNull_0 0 rfl rfl)
theorem dJ25_requireNonNull_1 : decode cJ25_requireNonNull 1 = .ok (.ifnonnull 11, 3) := dk_199 0 11 (dk_at dksJ25_requireNonNull_0 1 rfl rfl)
theorem dJ25_requireNonNull_4 : decode cJ25_requireNonNull 4 = .ok (.new 84, 3) := dk_187 0 84 (dk_at dksJ25_requireNonNull_0 4 rfl rfl)
theorem dJ25_requireNonNull_12 : decode cJ25_requireNonNull 12 = .ok (.aload_n 0, 1) := dk_42 (dk_at dksJ25_requireNonNull_0 12 rfl rfl)
theorem dJ25_requireNonNull_13 : decode cJ25_requireNonNull 13 = .ok (.areturn, 1) := dk_176 (dk_at dksJ25_requireNonNull_0 13 rfl rfl)
abbrev cJ39_init : ByteArray := prog_94_method_1_code
def dkwJ39_init_1 : List UInt8 := [177]
abbrev dktJ39_init_1 : List UInt8 := dkwJ39_init_1 ++ []
def dkwJ39_init_0 : List UInt8 := [42, 183, 0, 3, 42, 4, 181, 0, 9, 42, 43, 181, 0, 15, 42, 44, 181, 0, 19, 42, 45, 181, 0, 22]
abbrev dktJ39_init_0 : List UInt8 := dkwJ39_init_0 ++ dktJ39_init_1
theorem dksJ39_init_0 : cJ39_init.data.toList.drop 0 = dktJ39_init_0 := by decide +kernel
theorem dksJ39_init_1 : cJ39_init.data.toList.drop 24 = dktJ39_init_1 := dk_seg dksJ39_init_0 24 rfl rfl
theorem dJ39_init_0 : decode cJ39_init 0 = .ok (.aload_n 0, 1) := dk_42 (dk_at dksJ39_init_0 0 rfl rfl)
theorem dJ39_init_1 : decode cJ39_init 1 = .ok (.invokespecial 3, 3) := dk_183 0 3 (dk_at dksJ39_init_0 1 rfl rfl)
theorem dJ39_init_4 : decode cJ39_init 4 = .ok (.aload_n 0, 1) := dk_42 (dk_at dksJ39_init_0 4 rfl rfl)
theorem dJ39_init_5 : decode cJ39_init 5 = .ok (.iconst 1, 1) := dk_4 (dk_at dksJ39_init_0 5 rfl rfl)
theorem dJ39_init_6 : decode cJ39_init 6 = .ok (.putfield 9, 3) := dk_181 0 9 (dk_at dksJ39_init_0 6 rfl rfl)
theorem dJ39_init_9 : decode cJ39_init 9 = .ok (.aload_n 0, 1) := dk_42 (dk_at dksJ39_init_0 9 rfl rfl)
theorem dJ39_init_10 : decode cJ39_init 10 = .ok (.aload_n 1, 1) := dk_43 (dk_at dksJ39_init_0 10 rfl rfl)
theorem dJ39_init_11 : decode cJ39_init 11 = .ok (.putfield 15, 3) := dk_181 0 15 (dk_at dksJ39_init_0 11 rfl rfl)
theorem dJ39_init_14 : decode cJ39_init 14 = .ok (.aload_n 0, 1) := dk_42 (dk_at dksJ39_init_0 14 rfl rfl)
theorem dJ39_init_15 : decode cJ39_init 15 = .ok (.aload_n 2, 1) := dk_44 (dk_at dksJ39_init_0 15 rfl rfl)
theorem dJ39_init_16 : decode cJ39_init 16 = .ok (.putfield 19, 3) := dk_181 0 19 (dk_at dksJ39_init_0 16 rfl rfl)
theorem dJ39_init_19 : decode cJ39_init 19 = .ok (.aload_n 0, 1) := dk_42 (dk_at dksJ39_init_0 19 rfl rfl)
theorem dJ39_init_20 : decode cJ39_init 20 = .ok (.aload_n 3, 1) := dk_45 (dk_at dksJ39_init_0 20 rfl rfl)
theorem dJ39_init_21 : decode cJ39_init 21 = .ok (.putfield 22, 3) := dk_181 0 22 (dk_at dksJ39_init_0 21 rfl rfl)
theorem dJ39_init_24 : decode cJ39_init 24 = .ok (.return_, 1) := dk_177 (dk_at dksJ39_init_1 0 rfl rfl)
abbrev cJ33_init : ByteArray := prog_76_method_1_code
def dkwJ33_init_0 : List UInt8 := [42, 183, 0, 1, 42, 44, 181, 0, 7, 42, 45, 181, 0, 13, 42, 43, 181, 0, 17, 177]
abbrev dktJ33_init_0 : List UInt8 := dkwJ33_init_0 ++ []
theorem dksJ33_init_0 : cJ33_init.data.toList.drop 0 = dktJ33_init_0 := by decide +kernel
theorem dJ33_init_0 : decode cJ33_init 0 = .ok (.aload_n 0, 1) := dk_42 (dk_at dksJ33_init_0 0 rfl rfl)
theorem dJ33_init_1 : decode cJ33_init 1 = .ok (.invokespecial 1, 3) := dk_183 0 1 (dk_at dksJ33_init_0 1 rfl rfl)
theorem dJ33_init_4 : decode cJ33_init 4 = .ok (.aload_n 0, 1) := dk_42 (dk_at dksJ33_init_0 4 rfl rfl)
theorem dJ33_init_5 : decode cJ33_init 5 = .ok (.aload_n 2, 1) := dk_44 (dk_at dksJ33_init_0 5 rfl rfl)
theorem dJ33_init_6 : decode cJ33_init 6 = .ok (.putfield 7, 3) := dk_181 0 7 (dk_at dksJ33_init_0 6 rfl rfl)
theorem dJ33_init_9 : decode cJ33_init 9 = .ok (.aload_n 0, 1) := dk_42 (dk_at dksJ33_init_0 9 rfl rfl)
theorem dJ33_init_10 : decode cJ33_init 10 = .ok (.aload_n 3, 1) := dk_45 (dk_at dksJ33_init_0 10 rfl rfl)
theorem dJ33_init_11 : decode cJ33_init 11 = .ok (.putfield 13, 3) := dk_181 0 13 (dk_at dksJ33_init_0 11 rfl rfl)
theorem dJ33_init_14 : decode cJ33_init 14 = .ok (.aload_n 0, 1) := dk_42 (dk_at dksJ33_init_0 14 rfl rfl)
theorem dJ33_init_15 : decode cJ33_init 15 = .ok (.aload_n 1, 1) := dk_43 (dk_at dksJ33_init_0 15 rfl rfl)
theorem dJ33_init_16 : decode cJ33_init 16 = .ok (.putfield 17, 3) := dk_181 0 17 (dk_at dksJ33_init_0 16 rfl rfl)
theorem dJ33_init_19 : decode cJ33_init 19 = .ok (.return_, 1) := dk_177 (dk_at dksJ33_init_0 19 rfl rfl)
abbrev cJ40_init : ByteArray := prog_56_method_1_code
theorem dJ40_init_0 : decode cJ40_init 0 = .ok (.aload_n 0, 1) := by decide +kernel
theorem dJ40_init_1 : decode cJ40_init 1 = .ok (.invokespecial 1, 3) := by decide +kernel
theorem dJ40_init_4 : decode cJ40_init 4 = .ok (.return_, 1) := by decide +kernel
abbrev cJ14_init_2 : ByteArray := prog_39_method_1_code
theorem dJ14_init_2_0 : decode cJ14_init_2 0 = .ok (.aload_n 0, 1) := by decide +kernel
theorem dJ14_init_2_1 : decode cJ14_init_2 1 = .ok (.invokespecial 1, 3) := by decide +kernel
theorem dJ14_init_2_4 : decode cJ14_init_2 4 = .ok (.return_, 1) := by decide +kernel
abbrev cJ18_checkIndex : ByteArray := prog_107_method_11_code
def dkwJ18_checkIndex_0 : List UInt8 := [26, 155, 0, 8, 26, 27, 161, 0, 10, 44, 26, 27, 184, 0, 95, 191, 26, 172]
abbrev dktJ18_checkIndex_0 : List UInt8 := dkwJ18_checkIndex_0 ++ []
theorem dksJ18_checkIndex_0 : cJ18_checkIndex.data.toList.drop 0 = dktJ18_checkIndex_0 := by decide +kernel
theorem dJ18_checkIndex_0 : decode cJ18_checkIndex 0 = .ok (.iload_n 0, 1) := dk_26 (dk_at dksJ18_checkIndex_0 0 rfl rfl)
theorem dJ18_checkIndex_1 : decode cJ18_checkIndex 1 = .ok (.ifCond .lt 8, 3) := dk_155 0 8 (dk_at dksJ18_checkIndex_0 1 rfl rfl)
theorem dJ18_checkIndex_4 : decode cJ18_checkIndex 4 = .ok (.iload_n 0, 1) := dk_26 (dk_at dksJ18_checkIndex_0 4 rfl rfl)
theorem dJ18_checkIndex_5 : decode cJ18_checkIndex 5 = .ok (.iload_n 1, 1) := dk_27 (dk_at dksJ18_checkIndex_0 5 rfl rfl)
theorem dJ18_checkIndex_6 : decode cJ18_checkIndex 6 = .ok (.if_icmp .lt 10, 3) := dk_161 0 10 (dk_at dksJ18_checkIndex_0 6 rfl rfl)
theorem dJ18_checkIndex_9 : decode cJ18_checkIndex 9 = .ok (.aload_n 2, 1) := dk_44 (dk_at dksJ18_checkIndex_0 9 rfl rfl)
theorem dJ18_checkIndex_10 : decode cJ18_checkIndex 10 = .ok (.iload_n 0, 1) := dk_26 (dk_at dksJ18_checkIndex_0 10 rfl rfl)
theorem dJ18_checkIndex_11 : decode cJ18_checkIndex 11 = .ok (.iload_n 1, 1) := dk_27 (dk_at dksJ18_checkIndex_0 11 rfl rfl)
theorem dJ18_checkIndex_12 : decode cJ18_checkIndex 12 = .ok (.invokestatic 95, 3) := dk_184 0 95 (dk_at dksJ18_checkIndex_0 12 rfl rfl)
theorem dJ18_checkIndex_16 : decode cJ18_checkIndex 16 = .ok (.iload_n 0, 1) := dk_26 (dk_at dksJ18_checkIndex_0 16 rfl rfl)
theorem dJ18_checkIndex_17 : decode cJ18_checkIndex 17 = .ok (.ireturn, 1) := dk_172 (dk_at dksJ18_checkIndex_0 17 rfl rfl)
abbrev cJ42_init : ByteArray := prog_102_method_1_code
def dkwJ42_init_0 : List UInt8 := [42, 43, 181, 0, 1, 42, 183, 0, 7, 177]
abbrev dktJ42_init_0 : List UInt8 := dkwJ42_init_0 ++ []
theorem dksJ42_init_0 : cJ42_init.data.toList.drop 0 = dktJ42_init_0 := by decide +kernel
theorem dJ42_init_0 : decode cJ42_init 0 = .ok (.aload_n 0, 1) := dk_42 (dk_at dksJ42_init_0 0 rfl rfl)
theorem dJ42_init_1 : decode cJ42_init 1 = .ok (.aload_n 1, 1) := dk_43 (dk_at dksJ42_init_0 1 rfl rfl)
theorem dJ42_init_2 : decode cJ42_init 2 = .ok (.putfield 1, 3) := dk_181 0 1 (dk_at dksJ42_init_0 2 rfl rfl)
theorem dJ42_init_5 : decode cJ42_init 5 = .ok (.aload_n 0, 1) := dk_42 (dk_at dksJ42_init_0 5 rfl rfl)
theorem dJ42_init_6 : decode cJ42_init 6 = .ok (.invokespecial 7, 3) := dk_183 0 7 (dk_at dksJ42_init_0 6 rfl rfl)
theorem dJ42_init_9 : decode cJ42_init 9 = .ok (.return_, 1) := dk_177 (dk_at dksJ42_init_0 9 rfl rfl)
abbrev cJ42_iterator : ByteArray := prog_102_method_2_code
def dkwJ42_iterator_0 : List UInt8 := [187, 0, 13, 89, 42, 180, 0, 1, 42, 180, 0, 1, 182, 0, 15, 183, 0, 21, 176]
abbrev dktJ42_iterator_0 : List UInt8 := dkwJ42_iterator_0 ++ []
theorem dksJ42_iterator_0 : cJ42_iterator.data.toList.drop 0 = dktJ42_iterator_0 := by decide +kernel
theorem dJ42_iterator_0 : decode cJ42_iterator 0 = .ok (.new 13, 3) := dk_187 0 13 (dk_at dksJ42_iterator_0 0 rfl rfl)
theorem dJ42_iterator_3 : decode cJ42_iterator 3 = .ok (.dup, 1) := dk_89 (dk_at dksJ42_iterator_0 3 rfl rfl)
theorem dJ42_iterator_4 : decode cJ42_iterator 4 = .ok (.aload_n 0, 1) := dk_42 (dk_at dksJ42_iterator_0 4 rfl rfl)
theorem dJ42_iterator_5 : decode cJ42_iterator 5 = .ok (.getfield 1, 3) := dk_180 0 1 (dk_at dksJ42_iterator_0 5 rfl rfl)
theorem dJ42_iterator_8 : decode cJ42_iterator 8 = .ok (.aload_n 0, 1) := dk_42 (dk_at dksJ42_iterator_0 8 rfl rfl)
theorem dJ42_iterator_9 : decode cJ42_iterator 9 = .ok (.getfield 1, 3) := dk_180 0 1 (dk_at dksJ42_iterator_0 9 rfl rfl)
theorem dJ42_iterator_12 : decode cJ42_iterator 12 = .ok (.invokevirtual 15, 3) := dk_182 0 15 (dk_at dksJ42_iterator_0 12 rfl rfl)
theorem dJ42_iterator_15 : decode cJ42_iterator 15 = .ok (.invokespecial 21, 3) := dk_183 0 21 (dk_at dksJ42_iterator_0 15 rfl rfl)
theorem dJ42_iterator_18 : decode cJ42_iterator 18 = .ok (.areturn, 1) := dk_176 (dk_at dksJ42_iterator_0 18 rfl rfl)
abbrev cJ26_init_2 : ByteArray := prog_83_method_1_code
theorem dJ26_init_2_0 : decode cJ26_init_2 0 = .ok (.aload_n 0, 1) := by decide +kernel
theorem dJ26_init_2_1 : decode cJ26_init_2 1 = .ok (.invokespecial 1, 3) := by decide +kernel
theorem dJ26_init_2_4 : decode cJ26_init_2 4 = .ok (.return_, 1) := by decide +kernel
abbrev cJ38_ordinal : ByteArray := prog_35_method_2_code
theorem dJ38_ordinal_0 : decode cJ38_ordinal 0 = .ok (.aload_n 0, 1) := by decide +kernel
theorem dJ38_ordinal_1 : decode cJ38_ordinal 1 = .ok (.getfield 7, 3) := by decide +kernel
theorem dJ38_ordinal_4 : decode cJ38_ordinal 4 = .ok (.ireturn, 1) := by decide +kernel
abbrev cJ7_isLatin1 : ByteArray := prog_48_method_154_code
def dkwJ7_isLatin1_0 : List UInt8 := [178, 0, 38, 153, 0, 14, 42, 180, 0, 15, 154, 0, 7, 4, 167, 0, 4, 3, 172]
abbrev dktJ7_isLatin1_0 : List UInt8 := dkwJ7_isLatin1_0 ++ []
theorem dksJ7_isLatin1_0 : cJ7_isLatin1.data.toList.drop 0 = dktJ7_isLatin1_0 := by decide +kernel
theorem dJ7_isLatin1_0 : decode cJ7_isLatin1 0 = .ok (.getstatic 38, 3) := dk_178 0 38 (dk_at dksJ7_isLatin1_0 0 rfl rfl)
theorem dJ7_isLatin1_3 : decode cJ7_isLatin1 3 = .ok (.ifCond .eq 14, 3) := dk_153 0 14 (dk_at dksJ7_isLatin1_0 3 rfl rfl)
theorem dJ7_isLatin1_6 : decode cJ7_isLatin1 6 = .ok (.aload_n 0, 1) := dk_42 (dk_at dksJ7_isLatin1_0 6 rfl rfl)
theorem dJ7_isLatin1_7 : decode cJ7_isLatin1 7 = .ok (.getfield 15, 3) := dk_180 0 15 (dk_at dksJ7_isLatin1_0 7 rfl rfl)
theorem dJ7_isLatin1_10 : decode cJ7_isLatin1 10 = .ok (.ifCond .ne 7, 3) := dk_154 0 7 (dk_at dksJ7_isLatin1_0 10 rfl rfl)
theorem dJ7_isLatin1_13 : decode cJ7_isLatin1 13 = .ok (.iconst 1, 1) := dk_4 (dk_at dksJ7_isLatin1_0 13 rfl rfl)
theorem dJ7_isLatin1_14 : decode cJ7_isLatin1 14 = .ok (.goto 4, 3) := dk_167 0 4 (dk_at dksJ7_isLatin1_0 14 rfl rfl)
theorem dJ7_isLatin1_17 : decode cJ7_isLatin1 17 = .ok (.iconst 0, 1) := dk_3 (dk_at dksJ7_isLatin1_0 17 rfl rfl)
theorem dJ7_isLatin1_18 : decode cJ7_isLatin1 18 = .ok (.ireturn, 1) := dk_172 (dk_at dksJ7_isLatin1_0 18 rfl rfl)
theorem q110 : (Jvm.Cond.initialized "java/util/AbstractCollection") ∈ lw_all := lw_g (lw_at lw_m1 3 rfl) rfl
theorem q111 : (Jvm.Cond.initialized "java/util/AbstractList") ∈ lw_all := lw_g (lw_at lw_m1 4 rfl) rfl
theorem q112 : (Jvm.Cond.initialized "java/util/ArrayList") ∈ lw_all := lw_g (lw_at lw_m1 5 rfl) rfl
theorem q115 : (Jvm.Cond.initialized "java/util/AbstractSequentialList") ∈ lw_all := lw_g (lw_at lw_m1 8 rfl) rfl
theorem q116 : (Jvm.Cond.initialized "java/util/LinkedList") ∈ lw_all := lw_g (lw_at lw_m1 9 rfl) rfl
theorem q122 : (Jvm.Cond.initialized "java/lang/Throwable") ∈ lw_all := lw_g (lw_at lw_m1 15 rfl) rfl
theorem q123 : (Jvm.Cond.initialized "java/lang/Exception") ∈ lw_all := lw_g (lw_at lw_m1 16 rfl) rfl
theorem q124 : (Jvm.Cond.initialized "java/lang/RuntimeException") ∈ lw_all := lw_g (lw_at lw_m1 17 rfl) rfl
theorem q126 : (Jvm.Cond.initialized "java/util/ArrayList$Itr") ∈ lw_all := lw_g (lw_at lw_m1 19 rfl) rfl
theorem q128 : (Jvm.Cond.initialized "jdk/internal/util/ArraysSupport") ∈ lw_all := lw_g (lw_at lw_m1 21 rfl) rfl
theorem q129 : (Jvm.Cond.initialized "java/lang/Math") ∈ lw_all := lw_g (lw_at lw_m1 22 rfl) rfl
theorem q130 : (Jvm.Cond.initialized "java/util/Arrays") ∈ lw_all := lw_g (lw_at lw_m1 23 rfl) rfl
theorem q131 : (Jvm.Cond.initialized "java/lang/System") ∈ lw_all := lw_g (lw_at lw_m1 24 rfl) rfl
theorem q132 : (Jvm.Cond.initialized "jdk/internal/util/Preconditions") ∈ lw_all := lw_g (lw_at lw_m1 25 rfl) rfl
theorem q134 : (Jvm.Cond.initialized "java/lang/Number") ∈ lw_all := lw_g (lw_at lw_m1 27 rfl) rfl
theorem q135 : (Jvm.Cond.initialized "java/lang/Integer") ∈ lw_all := lw_g (lw_at lw_m1 28 rfl) rfl
theorem q139 : (Jvm.Cond.initialized "java/util/LinkedList$ListItr") ∈ lw_all := lw_g (lw_at lw_m1 32 rfl) rfl
theorem q140 : (Jvm.Cond.initialized "java/util/Objects") ∈ lw_all := lw_g (lw_at lw_m1 33 rfl) rfl
theorem q142 : (Jvm.Cond.initialized "java/util/AbstractMap") ∈ lw_all := lw_g (lw_at lw_m1 35 rfl) rfl
theorem q143 : (Jvm.Cond.initialized "java/util/TreeMap") ∈ lw_all := lw_g (lw_at lw_m1 36 rfl) rfl
theorem q145 : (Jvm.Cond.initialized "java/util/TreeMap$PrivateEntryIterator") ∈ lw_all := lw_g (lw_at lw_m1 38 rfl) rfl
theorem q147 : (Jvm.Cond.initialized "java/util/TreeMap$KeyIterator") ∈ lw_all := lw_g (lw_at lw_m1 40 rfl) rfl
theorem q148 : (Jvm.Cond.initialized "java/util/TreeMap$ValueIterator") ∈ lw_all := lw_g (lw_at lw_m1 41 rfl) rfl
theorem q149 : (Jvm.Cond.initialized "java/util/LinkedList$Node") ∈ lw_all := lw_g (lw_at lw_m1 42 rfl) rfl
theorem q151 : (Jvm.Cond.initialized "java/util/AbstractSet") ∈ lw_all := lw_g (lw_at lw_m1 44 rfl) rfl
theorem q152 : (Jvm.Cond.initialized "java/util/TreeMap$KeySet") ∈ lw_all := lw_g (lw_at lw_m1 45 rfl) rfl
theorem q160 : (Jvm.Cond.initialized "java/util/TreeMap$Entry") ∈ lw_all := lw_g (lw_at lw_m1 53 rfl) rfl
theorem q164 : (Jvm.Cond.initialized "java/util/TreeMap$Values") ∈ lw_all := lw_g (lw_at lw_m1 57 rfl) rfl
theorem q185 : (Jvm.Cond.instanceMethod ({ cls := "java/lang/Object", name := "<init>", desc := "()V" } : Jvm.MethodName)) ∈ lw_all := lw_g (lw_at lw_m1 78 rfl) rfl
theorem q186 : (Jvm.Cond.code ({ cls := "java/lang/Object", name := "<init>", desc := "()V" } : Jvm.MethodName) object_method_1_code (1 : Nat) (Option.none : Option Jvm.ClassFile.FieldType)) ∈ lw_all := lw_g (lw_at lw_m1 79 rfl) rfl
theorem q198 : (Jvm.Cond.methodLink "java/util/ArrayList" (1 : Nat) ({ cls := "java/util/AbstractList", name := "<init>", desc := "()V" } : Jvm.MethodName)) ∈ lw_all := lw_g (lw_at lw_m1 91 rfl) rfl
theorem q199 : (Jvm.Cond.instanceMethod ({ cls := "java/util/AbstractList", name := "<init>", desc := "()V" } : Jvm.MethodName)) ∈ lw_all := lw_g (lw_at lw_m1 92 rfl) rfl
theorem q200 : (Jvm.Cond.code ({ cls := "java/util/AbstractList", name := "<init>", desc := "()V" } : Jvm.MethodName) prog_60_method_1_code (1 : Nat) (Option.none : Option Jvm.ClassFile.FieldType)) ∈ lw_all := lw_g (lw_at lw_m1 93 rfl) rfl
theorem q201 : (Jvm.Cond.methodLink "java/util/AbstractList" (1 : Nat) ({ cls := "java/util/AbstractCollection", name := "<init>", desc := "()V" } : Jvm.MethodName)) ∈ lw_all := lw_g (lw_at lw_m1 94 rfl) rfl
theorem q202 : (Jvm.Cond.instanceMethod ({ cls := "java/util/AbstractCollection", name := "<init>", desc := "()V" } : Jvm.MethodName)) ∈ lw_all := lw_g (lw_at lw_m1 95 rfl) rfl
theorem q203 : (Jvm.Cond.code ({ cls := "java/util/AbstractCollection", name := "<init>", desc := "()V" } : Jvm.MethodName) prog_59_method_1_code (1 : Nat) (Option.none : Option Jvm.ClassFile.FieldType)) ∈ lw_all := lw_g (lw_at lw_m1 96 rfl) rfl
theorem q204 : (Jvm.Cond.methodLink "java/util/AbstractCollection" (1 : Nat) ({ cls := "java/lang/Object", name := "<init>", desc := "()V" } : Jvm.MethodName)) ∈ lw_all := lw_g (lw_at lw_m1 97 rfl) rfl
theorem q205 : (Jvm.Cond.fieldLink "java/util/ArrayList" (39 : Nat) "java/util/ArrayList" "DEFAULTCAPACITY_EMPTY_ELEMENTDATA" "[Ljava/lang/Object;") ∈ lw_all := lw_g (lw_at lw_m1 98 rfl) rfl
theorem q207 : (Jvm.Cond.fieldLink "java/util/ArrayList" (9 : Nat) "java/util/ArrayList" "elementData" "[Ljava/lang/Object;") ∈ lw_all := lw_g (lw_at lw_m1 100 rfl) rfl
theorem q208 : (Jvm.Cond.fieldLink "java/util/ArrayList$Itr" (37 : Nat) "java/util/ArrayList" "elementData" "[Ljava/lang/Object;") ∈ lw_all := lw_g (lw_at lw_m1 101 rfl) rfl
theorem q209 : (Jvm.Cond.fieldLinkNest "java/util/ArrayList$Itr" (28 : Nat) "java/util/ArrayList" "size" "I" "java/util/ArrayList") ∈ lw_tbl := lw_at lw_m1 102 rfl
theorem mv209 : (Jvm.Cond.fieldLinkNest "java/util/ArrayList$Itr" (28 : Nat) "java/util/ArrayList" "size" "I" "java/util/ArrayList") ∈ lw_mv := List.mem_filter.mpr ⟨q209, rfl⟩
theorem q210 : (Jvm.Cond.fieldLink "java/util/ArrayList" (48 : Nat) "java/util/ArrayList" "size" "I") ∈ lw_all := lw_g (lw_at lw_m1 103 rfl) rfl
theorem q211 : (Jvm.Cond.fieldLink "java/util/AbstractList" (7 : Nat) "java/util/AbstractList" "modCount" "I") ∈ lw_all := lw_g (lw_at lw_m1 104 rfl) rfl
theorem q212 : (Jvm.Cond.fieldLink "java/util/LinkedList$ListItr" (13 : Nat) "java/util/LinkedList" "modCount" "I") ∈ lw_all := lw_g (lw_at lw_m1 105 rfl) rfl
theorem q213 : (Jvm.Cond.sameField "java/util/LinkedList" "java/util/AbstractList" "modCount" "I") ∈ lw_all := lw_g (lw_at lw_m1 106 rfl) rfl
theorem q214 : (Jvm.Cond.fieldLink "java/util/ArrayList$Itr" (17 : Nat) "java/util/ArrayList" "modCount" "I") ∈ lw_all := lw_g (lw_at lw_m1 107 rfl) rfl
theorem q215 : (Jvm.Cond.sameField "java/util/ArrayList" "java/util/AbstractList" "modCount" "I") ∈ lw_all := lw_g (lw_at lw_m1 108 rfl) rfl
theorem q217 : (Jvm.Cond.fieldLink "java/util/LinkedList" (33 : Nat) "java/util/LinkedList" "modCount" "I") ∈ lw_all := lw_g (lw_at lw_m1 110 rfl) rfl
theorem q218 : (Jvm.Cond.fieldLink "java/util/ArrayList" (63 : Nat) "java/util/ArrayList" "modCount" "I") ∈ lw_all := lw_g (lw_at lw_m1 111 rfl) rfl
theorem q249 : (Jvm.Cond.methodLink "java/util/LinkedList" (1 : Nat) ({ cls := "java/util/AbstractSequentialList", name := "<init>", desc := "()V" } : Jvm.MethodName)) ∈ lw_all := lw_g (lw_at lw_m1 142 rfl) rfl
theorem q250 : (Jvm.Cond.instanceMethod ({ cls := "java/util/AbstractSequentialList", name := "<init>", desc := "()V" } : Jvm.MethodName)) ∈ lw_all := lw_g (lw_at lw_m1 143 rfl) rfl
theorem q251 : (Jvm.Cond.code ({ cls := "java/util/AbstractSequentialList", name := "<init>", desc := "()V" } : Jvm.MethodName) prog_64_method_1_code (1 : Nat) (Option.none : Option Jvm.ClassFile.FieldType)) ∈ lw_all := lw_g (lw_at lw_m1 144 rfl) rfl
theorem q252 : (Jvm.Cond.methodLink "java/util/AbstractSequentialList" (1 : Nat) ({ cls := "java/util/AbstractList", name := "<init>", desc := "()V" } : Jvm.MethodName)) ∈ lw_all := lw_g (lw_at lw_m1 145 rfl) rfl
theorem q253 : (Jvm.Cond.fieldLink "java/util/LinkedList" (7 : Nat) "java/util/LinkedList" "size" "I") ∈ lw_all := lw_g (lw_at lw_m1 146 rfl) rfl
theorem q254 : (Jvm.Cond.fieldLink "java/util/LinkedList$ListItr" (22 : Nat) "java/util/LinkedList" "size" "I") ∈ lw_all := lw_g (lw_at lw_m1 147 rfl) rfl
theorem q255 : (Jvm.Cond.fieldLink "java/util/LinkedList" (18 : Nat) "java/util/LinkedList" "first" "Ljava/util/LinkedList$Node;") ∈ lw_all := lw_g (lw_at lw_m1 148 rfl) rfl
theorem q256 : (Jvm.Cond.fieldLink "java/util/LinkedList" (27 : Nat) "java/util/LinkedList" "last" "Ljava/util/LinkedList$Node;") ∈ lw_all := lw_g (lw_at lw_m1 149 rfl) rfl
theorem q363 : (Jvm.Cond.classLink "java/util/ArrayList" (267 : Nat) "java/util/ArrayList$Itr") ∈ lw_all := lw_g (lw_at lw_m2 16 rfl) rfl
theorem q365 : (Jvm.Cond.methodLink "java/util/ArrayList" (269 : Nat) ({ cls := "java/util/ArrayList$Itr", name := "<init>", desc := "(Ljava/util/ArrayList;)V" } : Jvm.MethodName)) ∈ lw_all := lw_g (lw_at lw_m2 18 rfl) rfl
theorem q366 : (Jvm.Cond.instanceMethod ({ cls := "java/util/ArrayList$Itr", name := "<init>", desc := "(Ljava/util/ArrayList;)V" } : Jvm.MethodName)) ∈ lw_all := lw_g (lw_at lw_m2 19 rfl) rfl
theorem q367 : (Jvm.Cond.code ({ cls := "java/util/ArrayList$Itr", name := "<init>", desc := "(Ljava/util/ArrayList;)V" } : Jvm.MethodName) prog_67_method_1_code (2 : Nat) (Option.none : Option Jvm.ClassFile.FieldType)) ∈ lw_all := lw_g (lw_at lw_m2 20 rfl) rfl
theorem q368 : (Jvm.Cond.methodLink "java/util/ArrayList$Itr" (7 : Nat) ({ cls := "java/lang/Object", name := "<init>", desc := "()V" } : Jvm.MethodName)) ∈ lw_all := lw_g (lw_at lw_m2 21 rfl) rfl
theorem q371 : (Jvm.Cond.fieldLink "java/util/ArrayList$Itr" (25 : Nat) "java/util/ArrayList$Itr" "cursor" "I") ∈ lw_all := lw_g (lw_at lw_m2 24 rfl) rfl
theorem q372 : (Jvm.Cond.fieldLink "java/util/ArrayList$Itr" (13 : Nat) "java/util/ArrayList$Itr" "lastRet" "I") ∈ lw_all := lw_g (lw_at lw_m2 25 rfl) rfl
theorem q373 : (Jvm.Cond.fieldLink "java/util/ArrayList$Itr" (22 : Nat) "java/util/ArrayList$Itr" "expectedModCount" "I") ∈ lw_all := lw_g (lw_at lw_m2 26 rfl) rfl
theorem q374 : (Jvm.Cond.fieldLink "java/util/ArrayList$Itr" (1 : Nat) "java/util/ArrayList$Itr" "this$0" "Ljava/util/ArrayList;") ∈ lw_all := lw_g (lw_at lw_m2 27 rfl) rfl
theorem q429 : (Jvm.Cond.instanceMethod ({ cls := "java/lang/Throwable", name := "<init>", desc := "()V" } : Jvm.MethodName)) ∈ lw_all := lw_g (lw_at lw_m2 82 rfl) rfl
theorem q430 : (Jvm.Cond.code ({ cls := "java/lang/Throwable", name := "<init>", desc := "()V" } : Jvm.MethodName) prog_55_method_1_code (1 : Nat) (Option.none : Option Jvm.ClassFile.FieldType)) ∈ lw_all := lw_g (lw_at lw_m2 83 rfl) rfl
theorem q431 : (Jvm.Cond.methodLink "java/lang/Throwable" (1 : Nat) ({ cls := "java/lang/Object", name := "<init>", desc := "()V" } : Jvm.MethodName)) ∈ lw_all := lw_g (lw_at lw_m2 84 rfl) rfl
theorem q432 : (Jvm.Cond.fieldLink "java/lang/Throwable" (13 : Nat) "java/lang/Throwable" "UNASSIGNED_STACK" "[Ljava/lang/StackTraceElement;") ∈ lw_all := lw_g (lw_at lw_m2 85 rfl) rfl
theorem q434 : (Jvm.Cond.fieldLink "java/lang/Throwable" (20 : Nat) "java/lang/Throwable" "SUPPRESSED_SENTINEL" "Ljava/util/List;") ∈ lw_all := lw_g (lw_at lw_m2 87 rfl) rfl
theorem q481 : (Jvm.Cond.static ({ cls := "jdk/internal/util/ArraysSupport", name := "newLength", desc := "(III)I" } : Jvm.MethodName)) ∈ lw_all := lw_g (lw_at lw_m2 134 rfl) rfl
theorem q482 : (Jvm.Cond.code ({ cls := "jdk/internal/util/ArraysSupport", name := "newLength", desc := "(III)I" } : Jvm.MethodName) prog_106_method_27_code (4 : Nat) (Option.some Jvm.ClassFile.FieldType.int)) ∈ lw_all := lw_g (lw_at lw_m2 135 rfl) rfl
theorem q483 : (Jvm.Cond.methodLink "jdk/internal/util/ArraysSupport" (194 : Nat) ({ cls := "java/lang/Math", name := "max", desc := "(II)I" } : Jvm.MethodName)) ∈ lw_all := lw_g (lw_at lw_m2 136 rfl) rfl
theorem q484 : (Jvm.Cond.static ({ cls := "java/lang/Math", name := "max", desc := "(II)I" } : Jvm.MethodName)) ∈ lw_all := lw_g (lw_at lw_m2 137 rfl) rfl
theorem q485 : (Jvm.Cond.code ({ cls := "java/lang/Math", name := "max", desc := "(II)I" } : Jvm.MethodName) prog_44_method_65_code (2 : Nat) (Option.some Jvm.ClassFile.FieldType.int)) ∈ lw_all := lw_g (lw_at lw_m2 138 rfl) rfl
theorem q486 : (Jvm.Cond.constant "jdk/internal/util/ArraysSupport" (200 : Nat) (2147483639 : Int32)) ∈ lw_all := lw_g (lw_at lw_m2 139 rfl) rfl
theorem q487 : (Jvm.Cond.methodLink "jdk/internal/util/ArraysSupport" (201 : Nat) ({ cls := "jdk/internal/util/ArraysSupport", name := "hugeLength", desc := "(II)I" } : Jvm.MethodName)) ∈ lw_all := lw_g (lw_at lw_m2 140 rfl) rfl
theorem q488 : (Jvm.Cond.static ({ cls := "jdk/internal/util/ArraysSupport", name := "hugeLength", desc := "(II)I" } : Jvm.MethodName)) ∈ lw_all := lw_g (lw_at lw_m2 141 rfl) rfl
theorem q489 : (Jvm.Cond.code ({ cls := "jdk/internal/util/ArraysSupport", name := "hugeLength", desc := "(II)I" } : Jvm.MethodName) prog_106_method_28_code (3 : Nat) (Option.some Jvm.ClassFile.FieldType.int)) ∈ lw_all := lw_g (lw_at lw_m2 142 rfl) rfl
theorem q501 : (Jvm.Cond.methodLink "java/util/Arrays" (304 : Nat) ({ cls := "java/lang/Math", name := "min", desc := "(II)I" } : Jvm.MethodName)) ∈ lw_all := lw_g (lw_at lw_m2 154 rfl) rfl
theorem q502 : (Jvm.Cond.static ({ cls := "java/lang/Math", name := "min", desc := "(II)I" } : Jvm.MethodName)) ∈ lw_all := lw_g (lw_at lw_m2 155 rfl) rfl
theorem q503 : (Jvm.Cond.code ({ cls := "java/lang/Math", name := "min", desc := "(II)I" } : Jvm.MethodName) prog_44_method_69_code (2 : Nat) (Option.some Jvm.ClassFile.FieldType.int)) ∈ lw_all := lw_g (lw_at lw_m2 156 rfl) rfl
theorem q504 : (Jvm.Cond.methodLink "java/util/Arrays" (150 : Nat) ({ cls := "java/lang/System", name := "arraycopy", desc := "(Ljava/lang/Object;ILjava/lang/Object;II)V" } : Jvm.MethodName)) ∈ lw_all := lw_g (lw_at lw_m2 157 rfl) rfl
theorem q505 : (Jvm.Cond.static ({ cls := "java/lang/System", name := "arraycopy", desc := "(Ljava/lang/Object;ILjava/lang/Object;II)V" } : Jvm.MethodName)) ∈ lw_all := lw_g (lw_at lw_m2 158 rfl) rfl
theorem q506 : (Jvm.Cond.native ({ cls := "java/lang/System", name := "arraycopy", desc := "(Ljava/lang/Object;ILjava/lang/Object;II)V" } : Jvm.MethodName)) ∈ lw_all := lw_g (lw_at lw_m2 159 rfl) rfl
theorem q546 : (Jvm.Cond.fieldLink "java/lang/String" (38 : Nat) "java/lang/String" "COMPACT_STRINGS" "Z") ∈ lw_all := lw_g (lw_at lw_m2 199 rfl) rfl
theorem q671 : (Jvm.Cond.fieldLink "java/lang/Throwable" (31 : Nat) "java/lang/Throwable" "detailMessage" "Ljava/lang/String;") ∈ lw_all := lw_g (lw_at lw_m3 84 rfl) rfl
theorem q672 : (Jvm.Cond.fieldLink "java/lang/Throwable" (7 : Nat) "java/lang/Throwable" "cause" "Ljava/lang/Throwable;") ∈ lw_all := lw_g (lw_at lw_m3 85 rfl) rfl
theorem q673 : (Jvm.Cond.fieldLink "java/lang/Throwable" (17 : Nat) "java/lang/Throwable" "stackTrace" "[Ljava/lang/StackTraceElement;") ∈ lw_all := lw_g (lw_at lw_m3 86 rfl) rfl
theorem q674 : (Jvm.Cond.fieldLink "java/lang/Throwable" (24 : Nat) "java/lang/Throwable" "suppressedExceptions" "Ljava/util/List;") ∈ lw_all := lw_g (lw_at lw_m3 87 rfl) rfl
theorem q697 : (Jvm.Cond.fieldLink "java/lang/String" (15 : Nat) "java/lang/String" "coder" "B") ∈ lw_all := lw_g (lw_at lw_m3 110 rfl) rfl
theorem q732 : (Jvm.Cond.methodLink "java/util/LinkedList" (76 : Nat) ({ cls := "java/util/LinkedList", name := "checkPositionIndex", desc := "(I)V" } : Jvm.MethodName)) ∈ lw_all := lw_g (lw_at lw_m3 145 rfl) rfl
theorem q734 : (Jvm.Cond.instanceMethod ({ cls := "java/util/LinkedList", name := "checkPositionIndex", desc := "(I)V" } : Jvm.MethodName)) ∈ lw_all := lw_g (lw_at lw_m3 147 rfl) rfl
theorem q735 : (Jvm.Cond.code ({ cls := "java/util/LinkedList", name := "checkPositionIndex", desc := "(I)V" } : Jvm.MethodName) prog_74_method_30_code (2 : Nat) (Option.none : Option Jvm.ClassFile.FieldType)) ∈ lw_all := lw_g (lw_at lw_m3 148 rfl) rfl
theorem q736 : (Jvm.Cond.methodLink "java/util/LinkedList" (128 : Nat) ({ cls := "java/util/LinkedList", name := "isPositionIndex", desc := "(I)Z" } : Jvm.MethodName)) ∈ lw_all := lw_g (lw_at lw_m3 149 rfl) rfl
theorem q738 : (Jvm.Cond.instanceMethod ({ cls := "java/util/LinkedList", name := "isPositionIndex", desc := "(I)Z" } : Jvm.MethodName)) ∈ lw_all := lw_g (lw_at lw_m3 151 rfl) rfl
theorem q739 : (Jvm.Cond.code ({ cls := "java/util/LinkedList", name := "isPositionIndex", desc := "(I)Z" } : Jvm.MethodName) prog_74_method_27_code (2 : Nat) (Option.some Jvm.ClassFile.FieldType.boolean)) ∈ lw_all := lw_g (lw_at lw_m3 152 rfl) rfl
theorem q760 : (Jvm.Cond.instanceMethod ({ cls := "java/util/LinkedList", name := "node", desc := "(I)Ljava/util/LinkedList$Node;" } : Jvm.MethodName)) ∈ lw_all := lw_g (lw_at lw_m3 173 rfl) rfl
theorem q761 : (Jvm.Cond.selects "java/util/LinkedList" ({ cls := "java/util/LinkedList", name := "node", desc := "(I)Ljava/util/LinkedList$Node;" } : Jvm.MethodName) ({ cls := "java/util/LinkedList", name := "node", desc := "(I)Ljava/util/LinkedList$Node;" } : Jvm.MethodName)) ∈ lw_all := lw_g (lw_at lw_m3 174 rfl) rfl
theorem q762 : (Jvm.Cond.code ({ cls := "java/util/LinkedList", name := "node", desc := "(I)Ljava/util/LinkedList$Node;" } : Jvm.MethodName) prog_74_method_31_code (4 : Nat) (Option.some (Jvm.ClassFile.FieldType.object "java/util/LinkedList$Node"))) ∈ lw_all := lw_g (lw_at lw_m3 175 rfl) rfl
theorem q763 : (Jvm.Cond.fieldLink "java/util/LinkedList$ListItr" (46 : Nat) "java/util/LinkedList$ListItr" "lastReturned" "Ljava/util/LinkedList$Node;") ∈ lw_all := lw_g (lw_at lw_m3 176 rfl) rfl
theorem q764 : (Jvm.Cond.fieldLink "java/util/LinkedList$ListItr" (29 : Nat) "java/util/LinkedList$ListItr" "next" "Ljava/util/LinkedList$Node;") ∈ lw_all := lw_g (lw_at lw_m3 177 rfl) rfl
theorem q765 : (Jvm.Cond.fieldLink "java/util/LinkedList$ListItr" (33 : Nat) "java/util/LinkedList$ListItr" "nextIndex" "I") ∈ lw_all := lw_g (lw_at lw_m3 178 rfl) rfl
theorem q766 : (Jvm.Cond.fieldLink "java/util/LinkedList$ListItr" (19 : Nat) "java/util/LinkedList$ListItr" "expectedModCount" "I") ∈ lw_all := lw_g (lw_at lw_m3 179 rfl) rfl
theorem q767 : (Jvm.Cond.fieldLink "java/util/LinkedList$ListItr" (1 : Nat) "java/util/LinkedList$ListItr" "this$0" "Ljava/util/LinkedList;") ∈ lw_all := lw_g (lw_at lw_m3 180 rfl) rfl
theorem q811 : (Jvm.Cond.instanceMethod ({ cls := "java/util/LinkedList$ListItr", name := "hasNext", desc := "()Z" } : Jvm.MethodName)) ∈ lw_all := lw_g (lw_at lw_m3 224 rfl) rfl
theorem q813 : (Jvm.Cond.code ({ cls := "java/util/LinkedList$ListItr", name := "hasNext", desc := "()Z" } : Jvm.MethodName) prog_75_method_2_code (1 : Nat) (Option.some Jvm.ClassFile.FieldType.boolean)) ∈ lw_all := lw_g (lw_at lw_m3 226 rfl) rfl
theorem q846 : (Jvm.Cond.methodLink "java/util/ArrayList" (118 : Nat) ({ cls := "java/util/Objects", name := "checkIndex", desc := "(II)I" } : Jvm.MethodName)) ∈ lw_all := lw_g (lw_at lw_m4 19 rfl) rfl
theorem q847 : (Jvm.Cond.static ({ cls := "java/util/Objects", name := "checkIndex", desc := "(II)I" } : Jvm.MethodName)) ∈ lw_all := lw_g (lw_at lw_m4 20 rfl) rfl
theorem q848 : (Jvm.Cond.code ({ cls := "java/util/Objects", name := "checkIndex", desc := "(II)I" } : Jvm.MethodName) prog_84_method_17_code (2 : Nat) (Option.some Jvm.ClassFile.FieldType.int)) ∈ lw_all := lw_g (lw_at lw_m4 21 rfl) rfl
theorem q849 : (Jvm.Cond.methodLink "java/util/Objects" (105 : Nat) ({ cls := "jdk/internal/util/Preconditions", name := "checkIndex", desc := "(IILjava/util/function/BiFunction;)I" } : Jvm.MethodName)) ∈ lw_all := lw_g (lw_at lw_m4 22 rfl) rfl
theorem q850 : (Jvm.Cond.static ({ cls := "jdk/internal/util/Preconditions", name := "checkIndex", desc := "(IILjava/util/function/BiFunction;)I" } : Jvm.MethodName)) ∈ lw_all := lw_g (lw_at lw_m4 23 rfl) rfl
theorem q851 : (Jvm.Cond.code ({ cls := "jdk/internal/util/Preconditions", name := "checkIndex", desc := "(IILjava/util/function/BiFunction;)I" } : Jvm.MethodName) prog_107_method_11_code (3 : Nat) (Option.some Jvm.ClassFile.FieldType.int)) ∈ lw_all := lw_g (lw_at lw_m4 24 rfl) rfl
theorem q852 : (Jvm.Cond.methodLink "java/util/ArrayList" (123 : Nat) ({ cls := "java/util/ArrayList", name := "elementData", desc := "(I)Ljava/lang/Object;" } : Jvm.MethodName)) ∈ lw_all := lw_g (lw_at lw_m4 25 rfl) rfl
theorem q853 : (Jvm.Cond.instanceMethod ({ cls := "java/util/ArrayList", name := "elementData", desc := "(I)Ljava/lang/Object;" } : Jvm.MethodName)) ∈ lw_all := lw_g (lw_at lw_m4 26 rfl) rfl
theorem q854 : (Jvm.Cond.selects "java/util/ArrayList" ({ cls := "java/util/ArrayList", name := "elementData", desc := "(I)Ljava/lang/Object;" } : Jvm.MethodName) ({ cls := "java/util/ArrayList", name := "elementData", desc := "(I)Ljava/lang/Object;" } : Jvm.MethodName)) ∈ lw_all := lw_g (lw_at lw_m4 27 rfl) rfl
theorem q855 : (Jvm.Cond.code ({ cls := "java/util/ArrayList", name := "elementData", desc := "(I)Ljava/lang/Object;" } : Jvm.MethodName) prog_66_method_18_code (2 : Nat) (Option.some (Jvm.ClassFile.FieldType.object "java/lang/Object"))) ∈ lw_all := lw_g (lw_at lw_m4 28 rfl) rfl
theorem q859 : (Jvm.Cond.methodLink "java/util/LinkedList" (90 : Nat) ({ cls := "java/util/LinkedList", name := "checkElementIndex", desc := "(I)V" } : Jvm.MethodName)) ∈ lw_all := lw_g (lw_at lw_m4 32 rfl) rfl
theorem q861 : (Jvm.Cond.instanceMethod ({ cls := "java/util/LinkedList", name := "checkElementIndex", desc := "(I)V" } : Jvm.MethodName)) ∈ lw_all := lw_g (lw_at lw_m4 34 rfl) rfl
theorem q862 : (Jvm.Cond.code ({ cls := "java/util/LinkedList", name := "checkElementIndex", desc := "(I)V" } : Jvm.MethodName) prog_74_method_29_code (2 : Nat) (Option.none : Option Jvm.ClassFile.FieldType)) ∈ lw_all := lw_g (lw_at lw_m4 35 rfl) rfl
theorem q863 : (Jvm.Cond.methodLink "java/util/LinkedList" (115 : Nat) ({ cls := "java/util/LinkedList", name := "isElementIndex", desc := "(I)Z" } : Jvm.MethodName)) ∈ lw_all := lw_g (lw_at lw_m4 36 rfl) rfl
theorem q865 : (Jvm.Cond.instanceMethod ({ cls := "java/util/LinkedList", name := "isElementIndex", desc := "(I)Z" } : Jvm.MethodName)) ∈ lw_all := lw_g (lw_at lw_m4 38 rfl) rfl
theorem q866 : (Jvm.Cond.code ({ cls := "java/util/LinkedList", name := "isElementIndex", desc := "(I)Z" } : Jvm.MethodName) prog_74_method_26_code (2 : Nat) (Option.some Jvm.ClassFile.FieldType.boolean)) ∈ lw_all := lw_g (lw_at lw_m4 39 rfl) rfl
theorem q867 : (Jvm.Cond.methodLink "java/util/LinkedList" (86 : Nat) ({ cls := "java/util/LinkedList", name := "node", desc := "(I)Ljava/util/LinkedList$Node;" } : Jvm.MethodName)) ∈ lw_all := lw_g (lw_at lw_m4 40 rfl) rfl
theorem q904 : (Jvm.Cond.instanceMethod ({ cls := "java/lang/Object", name := "getClass", desc := "()Ljava/lang/Class;" } : Jvm.MethodName)) ∈ lw_all := lw_g (lw_at lw_m4 77 rfl) rfl
theorem q955 : (Jvm.Cond.native ({ cls := "java/lang/Object", name := "getClass", desc := "()Ljava/lang/Class;" } : Jvm.MethodName)) ∈ lw_all := lw_g (lw_at lw_m4 128 rfl) rfl
theorem q996 : (Jvm.Cond.methodLink "java/util/ArrayList$Itr" (31 : Nat) ({ cls := "java/util/ArrayList$Itr", name := "checkForComodification", desc := "()V" } : Jvm.MethodName)) ∈ lw_all := lw_g (lw_at lw_m4 169 rfl) rfl
theorem q997 : (Jvm.Cond.instanceMethod ({ cls := "java/util/ArrayList$Itr", name := "checkForComodification", desc := "()V" } : Jvm.MethodName)) ∈ lw_all := lw_g (lw_at lw_m4 170 rfl) rfl
theorem q998 : (Jvm.Cond.selects "java/util/ArrayList$Itr" ({ cls := "java/util/ArrayList$Itr", name := "checkForComodification", desc := "()V" } : Jvm.MethodName) ({ cls := "java/util/ArrayList$Itr", name := "checkForComodification", desc := "()V" } : Jvm.MethodName)) ∈ lw_all := lw_g (lw_at lw_m4 171 rfl) rfl
theorem q1001 : (Jvm.Cond.code ({ cls := "java/util/ArrayList$Itr", name := "checkForComodification", desc := "()V" } : Jvm.MethodName) prog_67_method_6_code (1 : Nat) (Option.none : Option Jvm.ClassFile.FieldType)) ∈ lw_all := lw_g (lw_at lw_m4 174 rfl) rfl
theorem q1006 : (Jvm.Cond.methodLink "java/util/NoSuchElementException" (1 : Nat) ({ cls := "java/lang/RuntimeException", name := "<init>", desc := "()V" } : Jvm.MethodName)) ∈ lw_all := lw_g (lw_at lw_m4 179 rfl) rfl
theorem q1007 : (Jvm.Cond.instanceMethod ({ cls := "java/lang/RuntimeException", name := "<init>", desc := "()V" } : Jvm.MethodName)) ∈ lw_all := lw_g (lw_at lw_m4 180 rfl) rfl
theorem q1008 : (Jvm.Cond.code ({ cls := "java/lang/RuntimeException", name := "<init>", desc := "()V" } : Jvm.MethodName) prog_47_method_1_code (1 : Nat) (Option.none : Option Jvm.ClassFile.FieldType)) ∈ lw_all := lw_g (lw_at lw_m4 181 rfl) rfl
theorem q1009 : (Jvm.Cond.methodLink "java/lang/RuntimeException" (1 : Nat) ({ cls := "java/lang/Exception", name := "<init>", desc := "()V" } : Jvm.MethodName)) ∈ lw_all := lw_g (lw_at lw_m4 182 rfl) rfl
theorem q1010 : (Jvm.Cond.instanceMethod ({ cls := "java/lang/Exception", name := "<init>", desc := "()V" } : Jvm.MethodName)) ∈ lw_all := lw_g (lw_at lw_m4 183 rfl) rfl
theorem q1011 : (Jvm.Cond.code ({ cls := "java/lang/Exception", name := "<init>", desc := "()V" } : Jvm.MethodName) prog_36_method_1_code (1 : Nat) (Option.none : Option Jvm.ClassFile.FieldType)) ∈ lw_all := lw_g (lw_at lw_m4 184 rfl) rfl
theorem q1012 : (Jvm.Cond.methodLink "java/lang/Exception" (1 : Nat) ({ cls := "java/lang/Throwable", name := "<init>", desc := "()V" } : Jvm.MethodName)) ∈ lw_all := lw_g (lw_at lw_m4 185 rfl) rfl
theorem q1020 : (Jvm.Cond.methodLink "java/util/LinkedList$ListItr" (36 : Nat) ({ cls := "java/util/LinkedList$ListItr", name := "checkForComodification", desc := "()V" } : Jvm.MethodName)) ∈ lw_all := lw_g (lw_at lw_m4 193 rfl) rfl
theorem q1021 : (Jvm.Cond.instanceMethod ({ cls := "java/util/LinkedList$ListItr", name := "checkForComodification", desc := "()V" } : Jvm.MethodName)) ∈ lw_all := lw_g (lw_at lw_m4 194 rfl) rfl
theorem q1022 : (Jvm.Cond.selects "java/util/LinkedList$ListItr" ({ cls := "java/util/LinkedList$ListItr", name := "checkForComodification", desc := "()V" } : Jvm.MethodName) ({ cls := "java/util/LinkedList$ListItr", name := "checkForComodification", desc := "()V" } : Jvm.MethodName)) ∈ lw_all := lw_g (lw_at lw_m4 195 rfl) rfl
theorem q1023 : (Jvm.Cond.code ({ cls := "java/util/LinkedList$ListItr", name := "checkForComodification", desc := "()V" } : Jvm.MethodName) prog_75_method_12_code (1 : Nat) (Option.none : Option Jvm.ClassFile.FieldType)) ∈ lw_all := lw_g (lw_at lw_m4 196 rfl) rfl
theorem q1024 : (Jvm.Cond.methodLink "java/util/LinkedList$ListItr" (39 : Nat) ({ cls := "java/util/LinkedList$ListItr", name := "hasNext", desc := "()Z" } : Jvm.MethodName)) ∈ lw_all := lw_g (lw_at lw_m4 197 rfl) rfl
theorem q1040 : (Jvm.Cond.instanceMethod ({ cls := "java/util/TreeMap$PrivateEntryIterator", name := "nextEntry", desc := "()Ljava/util/TreeMap$Entry;" } : Jvm.MethodName)) ∈ lw_all := lw_g (lw_at lw_m4 213 rfl) rfl
theorem q1041 : (Jvm.Cond.code ({ cls := "java/util/TreeMap$PrivateEntryIterator", name := "nextEntry", desc := "()Ljava/util/TreeMap$Entry;" } : Jvm.MethodName) prog_100_method_3_code (2 : Nat) (Option.some (Jvm.ClassFile.FieldType.object "java/util/TreeMap$Entry"))) ∈ lw_all := lw_g (lw_at lw_m4 214 rfl) rfl
theorem q1044 : (Jvm.Cond.methodLink "java/util/TreeMap$PrivateEntryIterator" (35 : Nat) ({ cls := "java/util/TreeMap", name := "successor", desc := "(Ljava/util/TreeMap$Entry;)Ljava/util/TreeMap$Entry;" } : Jvm.MethodName)) ∈ lw_all := lw_g (lw_at lw_m4 217 rfl) rfl
theorem q1045 : (Jvm.Cond.static ({ cls := "java/util/TreeMap", name := "successor", desc := "(Ljava/util/TreeMap$Entry;)Ljava/util/TreeMap$Entry;" } : Jvm.MethodName)) ∈ lw_all := lw_g (lw_at lw_m4 218 rfl) rfl
theorem q1046 : (Jvm.Cond.code ({ cls := "java/util/TreeMap", name := "successor", desc := "(Ljava/util/TreeMap$Entry;)Ljava/util/TreeMap$Entry;" } : Jvm.MethodName) prog_93_method_74_code (3 : Nat) (Option.some (Jvm.ClassFile.FieldType.object "java/util/TreeMap$Entry"))) ∈ lw_all := lw_g (lw_at lw_m4 219 rfl) rfl
theorem q1052 : (Jvm.Cond.methodLink "java/util/TreeMap$KeyIterator" (7 : Nat) ({ cls := "java/util/TreeMap$KeyIterator", name := "nextEntry", desc := "()Ljava/util/TreeMap$Entry;" } : Jvm.MethodName)) ∈ lw_all := lw_g (lw_at lw_m4 225 rfl) rfl
theorem q1053 : (Jvm.Cond.sameMethod "java/util/TreeMap$KeyIterator" "java/util/TreeMap$PrivateEntryIterator" "nextEntry" "()Ljava/util/TreeMap$Entry;") ∈ lw_all := lw_g (lw_at lw_m4 226 rfl) rfl
theorem q1054 : (Jvm.Cond.selects "java/util/TreeMap$KeyIterator" ({ cls := "java/util/TreeMap$KeyIterator", name := "nextEntry", desc := "()Ljava/util/TreeMap$Entry;" } : Jvm.MethodName) ({ cls := "java/util/TreeMap$PrivateEntryIterator", name := "nextEntry", desc := "()Ljava/util/TreeMap$Entry;" } : Jvm.MethodName)) ∈ lw_all := lw_g (lw_at lw_m4 227 rfl) rfl
theorem q1060 : (Jvm.Cond.methodLink "java/util/TreeMap$ValueIterator" (7 : Nat) ({ cls := "java/util/TreeMap$ValueIterator", name := "nextEntry", desc := "()Ljava/util/TreeMap$Entry;" } : Jvm.MethodName)) ∈ lw_all := lw_g (lw_at lw_m4 233 rfl) rfl
theorem q1061 : (Jvm.Cond.sameMethod "java/util/TreeMap$ValueIterator" "java/util/TreeMap$PrivateEntryIterator" "nextEntry" "()Ljava/util/TreeMap$Entry;") ∈ lw_all := lw_g (lw_at lw_m4 234 rfl) rfl
theorem q1062 : (Jvm.Cond.selects "java/util/TreeMap$ValueIterator" ({ cls := "java/util/TreeMap$ValueIterator", name := "nextEntry", desc := "()Ljava/util/TreeMap$Entry;" } : Jvm.MethodName) ({ cls := "java/util/TreeMap$PrivateEntryIterator", name := "nextEntry", desc := "()Ljava/util/TreeMap$Entry;" } : Jvm.MethodName)) ∈ lw_all := lw_g (lw_at lw_m4 235 rfl) rfl
theorem q1078 : (Jvm.Cond.classLink "java/util/TreeMap" (237 : Nat) "java/util/TreeMap$Values") ∈ lw_all := lw_g (lw_at lw_m5 11 rfl) rfl
theorem q1080 : (Jvm.Cond.methodLink "java/util/TreeMap" (239 : Nat) ({ cls := "java/util/TreeMap$Values", name := "<init>", desc := "(Ljava/util/TreeMap;)V" } : Jvm.MethodName)) ∈ lw_all := lw_g (lw_at lw_m5 13 rfl) rfl
theorem q1081 : (Jvm.Cond.instanceMethod ({ cls := "java/util/TreeMap$Values", name := "<init>", desc := "(Ljava/util/TreeMap;)V" } : Jvm.MethodName)) ∈ lw_all := lw_g (lw_at lw_m5 14 rfl) rfl
theorem q1082 : (Jvm.Cond.code ({ cls := "java/util/TreeMap$Values", name := "<init>", desc := "(Ljava/util/TreeMap;)V" } : Jvm.MethodName) prog_102_method_1_code (2 : Nat) (Option.none : Option Jvm.ClassFile.FieldType)) ∈ lw_all := lw_g (lw_at lw_m5 15 rfl) rfl
theorem q1083 : (Jvm.Cond.methodLink "java/util/TreeMap$Values" (7 : Nat) ({ cls := "java/util/AbstractCollection", name := "<init>", desc := "()V" } : Jvm.MethodName)) ∈ lw_all := lw_g (lw_at lw_m5 16 rfl) rfl
theorem q1084 : (Jvm.Cond.fieldLink "java/util/TreeMap$Values" (1 : Nat) "java/util/TreeMap$Values" "this$0" "Ljava/util/TreeMap;") ∈ lw_all := lw_g (lw_at lw_m5 17 rfl) rfl
theorem q1105 : (Jvm.Cond.instanceMethod ({ cls := "java/util/TreeMap", name := "getFirstEntry", desc := "()Ljava/util/TreeMap$Entry;" } : Jvm.MethodName)) ∈ lw_all := lw_g (lw_at lw_m5 38 rfl) rfl
theorem q1106 : (Jvm.Cond.selects "java/util/TreeMap" ({ cls := "java/util/TreeMap", name := "getFirstEntry", desc := "()Ljava/util/TreeMap$Entry;" } : Jvm.MethodName) ({ cls := "java/util/TreeMap", name := "getFirstEntry", desc := "()Ljava/util/TreeMap$Entry;" } : Jvm.MethodName)) ∈ lw_all := lw_g (lw_at lw_m5 39 rfl) rfl
theorem q1107 : (Jvm.Cond.code ({ cls := "java/util/TreeMap", name := "getFirstEntry", desc := "()Ljava/util/TreeMap$Entry;" } : Jvm.MethodName) prog_93_method_72_code (2 : Nat) (Option.some (Jvm.ClassFile.FieldType.object "java/util/TreeMap$Entry"))) ∈ lw_all := lw_g (lw_at lw_m5 40 rfl) rfl
theorem q1112 : (Jvm.Cond.instanceMethod ({ cls := "java/util/TreeMap$PrivateEntryIterator", name := "<init>", desc := "(Ljava/util/TreeMap;Ljava/util/TreeMap$Entry;)V" } : Jvm.MethodName)) ∈ lw_all := lw_g (lw_at lw_m5 45 rfl) rfl
theorem q1113 : (Jvm.Cond.code ({ cls := "java/util/TreeMap$PrivateEntryIterator", name := "<init>", desc := "(Ljava/util/TreeMap;Ljava/util/TreeMap$Entry;)V" } : Jvm.MethodName) prog_100_method_1_code (3 : Nat) (Option.none : Option Jvm.ClassFile.FieldType)) ∈ lw_all := lw_g (lw_at lw_m5 46 rfl) rfl
theorem q1114 : (Jvm.Cond.methodLink "java/util/TreeMap$PrivateEntryIterator" (7 : Nat) ({ cls := "java/lang/Object", name := "<init>", desc := "()V" } : Jvm.MethodName)) ∈ lw_all := lw_g (lw_at lw_m5 47 rfl) rfl
theorem q1115 : (Jvm.Cond.fieldLink "java/util/TreeMap$PrivateEntryIterator" (26 : Nat) "java/util/TreeMap$PrivateEntryIterator" "next" "Ljava/util/TreeMap$Entry;") ∈ lw_all := lw_g (lw_at lw_m5 48 rfl) rfl
theorem q1116 : (Jvm.Cond.fieldLink "java/util/TreeMap$PrivateEntryIterator" (22 : Nat) "java/util/TreeMap$PrivateEntryIterator" "lastReturned" "Ljava/util/TreeMap$Entry;") ∈ lw_all := lw_g (lw_at lw_m5 49 rfl) rfl
theorem q1117 : (Jvm.Cond.fieldLink "java/util/TreeMap$PrivateEntryIterator" (19 : Nat) "java/util/TreeMap$PrivateEntryIterator" "expectedModCount" "I") ∈ lw_all := lw_g (lw_at lw_m5 50 rfl) rfl
theorem q1118 : (Jvm.Cond.fieldLink "java/util/TreeMap$PrivateEntryIterator" (1 : Nat) "java/util/TreeMap$PrivateEntryIterator" "this$0" "Ljava/util/TreeMap;") ∈ lw_all := lw_g (lw_at lw_m5 51 rfl) rfl
theorem q1134 : (Jvm.Cond.classLink "java/util/TreeMap$KeySet" (13 : Nat) "java/util/TreeMap") ∈ lw_all := lw_g (lw_at lw_m5 67 rfl) rfl
theorem q1135 : (Jvm.Cond.methodLink "java/util/TreeMap$KeySet" (15 : Nat) ({ cls := "java/util/TreeMap", name := "keyIterator", desc := "()Ljava/util/Iterator;" } : Jvm.MethodName)) ∈ lw_all := lw_g (lw_at lw_m5 68 rfl) rfl
theorem q1136 : (Jvm.Cond.instanceMethod ({ cls := "java/util/TreeMap", name := "keyIterator", desc := "()Ljava/util/Iterator;" } : Jvm.MethodName)) ∈ lw_all := lw_g (lw_at lw_m5 69 rfl) rfl
theorem q1137 : (Jvm.Cond.selects "java/util/TreeMap" ({ cls := "java/util/TreeMap", name := "keyIterator", desc := "()Ljava/util/Iterator;" } : Jvm.MethodName) ({ cls := "java/util/TreeMap", name := "keyIterator", desc := "()Ljava/util/Iterator;" } : Jvm.MethodName)) ∈ lw_all := lw_g (lw_at lw_m5 70 rfl) rfl
theorem q1138 : (Jvm.Cond.code ({ cls := "java/util/TreeMap", name := "keyIterator", desc := "()Ljava/util/Iterator;" } : Jvm.MethodName) prog_93_method_65_code (1 : Nat) (Option.some (Jvm.ClassFile.FieldType.object "java/util/Iterator"))) ∈ lw_all := lw_g (lw_at lw_m5 71 rfl) rfl
theorem q1139 : (Jvm.Cond.classLink "java/util/TreeMap" (269 : Nat) "java/util/TreeMap$KeyIterator") ∈ lw_all := lw_g (lw_at lw_m5 72 rfl) rfl
theorem q1141 : (Jvm.Cond.methodLink "java/util/TreeMap" (54 : Nat) ({ cls := "java/util/TreeMap", name := "getFirstEntry", desc := "()Ljava/util/TreeMap$Entry;" } : Jvm.MethodName)) ∈ lw_all := lw_g (lw_at lw_m5 74 rfl) rfl
theorem q1142 : (Jvm.Cond.methodLink "java/util/TreeMap" (271 : Nat) ({ cls := "java/util/TreeMap$KeyIterator", name := "<init>", desc := "(Ljava/util/TreeMap;Ljava/util/TreeMap$Entry;)V" } : Jvm.MethodName)) ∈ lw_all := lw_g (lw_at lw_m5 75 rfl) rfl
theorem q1143 : (Jvm.Cond.instanceMethod ({ cls := "java/util/TreeMap$KeyIterator", name := "<init>", desc := "(Ljava/util/TreeMap;Ljava/util/TreeMap$Entry;)V" } : Jvm.MethodName)) ∈ lw_all := lw_g (lw_at lw_m5 76 rfl) rfl
theorem q1144 : (Jvm.Cond.code ({ cls := "java/util/TreeMap$KeyIterator", name := "<init>", desc := "(Ljava/util/TreeMap;Ljava/util/TreeMap$Entry;)V" } : Jvm.MethodName) prog_97_method_1_code (3 : Nat) (Option.none : Option Jvm.ClassFile.FieldType)) ∈ lw_all := lw_g (lw_at lw_m5 77 rfl) rfl
theorem q1145 : (Jvm.Cond.methodLink "java/util/TreeMap$KeyIterator" (1 : Nat) ({ cls := "java/util/TreeMap$PrivateEntryIterator", name := "<init>", desc := "(Ljava/util/TreeMap;Ljava/util/TreeMap$Entry;)V" } : Jvm.MethodName)) ∈ lw_all := lw_g (lw_at lw_m5 78 rfl) rfl
theorem q1151 : (Jvm.Cond.classLink "java/util/TreeMap$KeySet" (19 : Nat) "java/util/TreeMap$NavigableSubMap") ∈ lw_all := lw_g (lw_at lw_m5 84 rfl) rfl
theorem q1161 : (Jvm.Cond.classLink "java/util/TreeMap$Values" (13 : Nat) "java/util/TreeMap$ValueIterator") ∈ lw_all := lw_g (lw_at lw_m5 94 rfl) rfl
theorem q1163 : (Jvm.Cond.methodLink "java/util/TreeMap$Values" (15 : Nat) ({ cls := "java/util/TreeMap", name := "getFirstEntry", desc := "()Ljava/util/TreeMap$Entry;" } : Jvm.MethodName)) ∈ lw_all := lw_g (lw_at lw_m5 96 rfl) rfl
theorem q1164 : (Jvm.Cond.methodLink "java/util/TreeMap$Values" (21 : Nat) ({ cls := "java/util/TreeMap$ValueIterator", name := "<init>", desc := "(Ljava/util/TreeMap;Ljava/util/TreeMap$Entry;)V" } : Jvm.MethodName)) ∈ lw_all := lw_g (lw_at lw_m5 97 rfl) rfl
theorem q1165 : (Jvm.Cond.instanceMethod ({ cls := "java/util/TreeMap$ValueIterator", name := "<init>", desc := "(Ljava/util/TreeMap;Ljava/util/TreeMap$Entry;)V" } : Jvm.MethodName)) ∈ lw_all := lw_g (lw_at lw_m5 98 rfl) rfl
theorem q1166 : (Jvm.Cond.code ({ cls := "java/util/TreeMap$ValueIterator", name := "<init>", desc := "(Ljava/util/TreeMap;Ljava/util/TreeMap$Entry;)V" } : Jvm.MethodName) prog_101_method_1_code (3 : Nat) (Option.none : Option Jvm.ClassFile.FieldType)) ∈ lw_all := lw_g (lw_at lw_m5 99 rfl) rfl
theorem q1167 : (Jvm.Cond.methodLink "java/util/TreeMap$ValueIterator" (1 : Nat) ({ cls := "java/util/TreeMap$PrivateEntryIterator", name := "<init>", desc := "(Ljava/util/TreeMap;Ljava/util/TreeMap$Entry;)V" } : Jvm.MethodName)) ∈ lw_all := lw_g (lw_at lw_m5 100 rfl) rfl
theorem q1218 : (Jvm.Cond.methodLink "java/lang/IllegalArgumentException" (1 : Nat) ({ cls := "java/lang/RuntimeException", name := "<init>", desc := "()V" } : Jvm.MethodName)) ∈ lw_all := lw_g (lw_at lw_m5 151 rfl) rfl
theorem q1268 : (Jvm.Cond.methodLink "java/util/ArrayList" (42 : Nat) ({ cls := "java/util/Collection", name := "toArray", desc := "()[Ljava/lang/Object;" } : Jvm.MethodName)) ∈ lw_all := lw_g (lw_at lw_m5 201 rfl) rfl
theorem q1271 : (Jvm.Cond.selects "java/util/ArrayList" ({ cls := "java/util/Collection", name := "toArray", desc := "()[Ljava/lang/Object;" } : Jvm.MethodName) ({ cls := "java/util/ArrayList", name := "toArray", desc := "()[Ljava/lang/Object;" } : Jvm.MethodName)) ∈ lw_all := lw_g (lw_at lw_m5 204 rfl) rfl
theorem q1273 : (Jvm.Cond.instanceMethod ({ cls := "java/util/ArrayList", name := "toArray", desc := "()[Ljava/lang/Object;" } : Jvm.MethodName)) ∈ lw_all := lw_g (lw_at lw_m5 206 rfl) rfl
theorem q1275 : (Jvm.Cond.code ({ cls := "java/util/ArrayList", name := "toArray", desc := "()[Ljava/lang/Object;" } : Jvm.MethodName) prog_66_method_16_code (1 : Nat) (Option.some (Jvm.ClassFile.FieldType.array (Jvm.ClassFile.FieldType.object "java/lang/Object")))) ∈ lw_all := lw_g (lw_at lw_m5 208 rfl) rfl
theorem q1276 : (Jvm.Cond.methodLink "java/util/ArrayList" (66 : Nat) ({ cls := "java/util/Arrays", name := "copyOf", desc := "([Ljava/lang/Object;I)[Ljava/lang/Object;" } : Jvm.MethodName)) ∈ lw_all := lw_g (lw_at lw_m5 209 rfl) rfl
theorem q1277 : (Jvm.Cond.static ({ cls := "java/util/Arrays", name := "copyOf", desc := "([Ljava/lang/Object;I)[Ljava/lang/Object;" } : Jvm.MethodName)) ∈ lw_all := lw_g (lw_at lw_m5 210 rfl) rfl
theorem q1278 : (Jvm.Cond.code ({ cls := "java/util/Arrays", name := "copyOf", desc := "([Ljava/lang/Object;I)[Ljava/lang/Object;" } : Jvm.MethodName) prog_69_method_119_code (2 : Nat) (Option.some (Jvm.ClassFile.FieldType.array (Jvm.ClassFile.FieldType.object "java/lang/Object")))) ∈ lw_all := lw_g (lw_at lw_m5 211 rfl) rfl
theorem q1279 : (Jvm.Cond.methodLink "java/util/Arrays" (86 : Nat) ({ cls := "java/lang/Object", name := "getClass", desc := "()Ljava/lang/Class;" } : Jvm.MethodName)) ∈ lw_all := lw_g (lw_at lw_m5 212 rfl) rfl
theorem q1280 : (Jvm.Cond.methodLink "java/util/Arrays" (300 : Nat) ({ cls := "java/util/Arrays", name := "copyOf", desc := "([Ljava/lang/Object;ILjava/lang/Class;)[Ljava/lang/Object;" } : Jvm.MethodName)) ∈ lw_all := lw_g (lw_at lw_m5 213 rfl) rfl
theorem q1281 : (Jvm.Cond.static ({ cls := "java/util/Arrays", name := "copyOf", desc := "([Ljava/lang/Object;ILjava/lang/Class;)[Ljava/lang/Object;" } : Jvm.MethodName)) ∈ lw_all := lw_g (lw_at lw_m5 214 rfl) rfl
theorem q1282 : (Jvm.Cond.code ({ cls := "java/util/Arrays", name := "copyOf", desc := "([Ljava/lang/Object;ILjava/lang/Class;)[Ljava/lang/Object;" } : Jvm.MethodName) prog_69_method_120_code (4 : Nat) (Option.some (Jvm.ClassFile.FieldType.array (Jvm.ClassFile.FieldType.object "java/lang/Object")))) ∈ lw_all := lw_g (lw_at lw_m5 215 rfl) rfl
theorem q1283 : (Jvm.Cond.classLink "java/util/Arrays" (110 : Nat) "[Ljava/lang/Object;") ∈ lw_all := lw_g (lw_at lw_m5 216 rfl) rfl
theorem q1284 : (Jvm.Cond.arrayOver (Jvm.ClassFile.FieldType.object "java/lang/Object")) ∈ lw_tbl := lw_at lw_m5 217 rfl
theorem mv1284 : (Jvm.Cond.arrayOver (Jvm.ClassFile.FieldType.object "java/lang/Object")) ∈ lw_mv := List.mem_filter.mpr ⟨q1284, rfl⟩
theorem q1285 : (Jvm.Cond.classLink "java/util/Arrays" (2 : Nat) "java/lang/Object") ∈ lw_all := lw_g (lw_at lw_m5 218 rfl) rfl
theorem q1286 : (Jvm.Cond.selects "java/util/LinkedList" ({ cls := "java/util/Collection", name := "toArray", desc := "()[Ljava/lang/Object;" } : Jvm.MethodName) ({ cls := "java/util/LinkedList", name := "toArray", desc := "()[Ljava/lang/Object;" } : Jvm.MethodName)) ∈ lw_all := lw_g (lw_at lw_m5 219 rfl) rfl
theorem q1288 : (Jvm.Cond.instanceMethod ({ cls := "java/util/LinkedList", name := "toArray", desc := "()[Ljava/lang/Object;" } : Jvm.MethodName)) ∈ lw_all := lw_g (lw_at lw_m5 221 rfl) rfl
theorem q1290 : (Jvm.Cond.code ({ cls := "java/util/LinkedList", name := "toArray", desc := "()[Ljava/lang/Object;" } : Jvm.MethodName) prog_74_method_53_code (4 : Nat) (Option.some (Jvm.ClassFile.FieldType.array (Jvm.ClassFile.FieldType.object "java/lang/Object")))) ∈ lw_all := lw_g (lw_at lw_m5 223 rfl) rfl
theorem q1291 : (Jvm.Cond.classLink "java/util/LinkedList" (68 : Nat) "java/lang/Object") ∈ lw_all := lw_g (lw_at lw_m5 224 rfl) rfl
theorem q1338 : (Jvm.Cond.methodLink "java/util/ArrayList" (69 : Nat) ({ cls := "java/util/ArrayList", name := "grow", desc := "(I)[Ljava/lang/Object;" } : Jvm.MethodName)) ∈ lw_all := lw_g (lw_at lw_m6 31 rfl) rfl
theorem q1340 : (Jvm.Cond.instanceMethod ({ cls := "java/util/ArrayList", name := "grow", desc := "(I)[Ljava/lang/Object;" } : Jvm.MethodName)) ∈ lw_all := lw_g (lw_at lw_m6 33 rfl) rfl
theorem q1341 : (Jvm.Cond.code ({ cls := "java/util/ArrayList", name := "grow", desc := "(I)[Ljava/lang/Object;" } : Jvm.MethodName) prog_66_method_6_code (4 : Nat) (Option.some (Jvm.ClassFile.FieldType.array (Jvm.ClassFile.FieldType.object "java/lang/Object")))) ∈ lw_all := lw_g (lw_at lw_m6 34 rfl) rfl
theorem q1342 : (Jvm.Cond.methodLink "java/util/ArrayList" (73 : Nat) ({ cls := "jdk/internal/util/ArraysSupport", name := "newLength", desc := "(III)I" } : Jvm.MethodName)) ∈ lw_all := lw_g (lw_at lw_m6 35 rfl) rfl
theorem q1343 : (Jvm.Cond.methodLink "java/util/ArrayList" (79 : Nat) ({ cls := "java/lang/Math", name := "max", desc := "(II)I" } : Jvm.MethodName)) ∈ lw_all := lw_g (lw_at lw_m6 36 rfl) rfl
theorem q1344 : (Jvm.Cond.classLink "java/util/ArrayList" (7 : Nat) "java/lang/Object") ∈ lw_all := lw_g (lw_at lw_m6 37 rfl) rfl
theorem q1345 : (Jvm.Cond.methodLink "java/util/ArrayList" (112 : Nat) ({ cls := "java/lang/System", name := "arraycopy", desc := "(Ljava/lang/Object;ILjava/lang/Object;II)V" } : Jvm.MethodName)) ∈ lw_all := lw_g (lw_at lw_m6 38 rfl) rfl
theorem q1351 : (Jvm.Cond.methodLink "java/util/LinkedList" (73 : Nat) ({ cls := "java/util/LinkedList", name := "addAll", desc := "(ILjava/util/Collection;)Z" } : Jvm.MethodName)) ∈ lw_all := lw_g (lw_at lw_m6 44 rfl) rfl
theorem q1352 : (Jvm.Cond.instanceMethod ({ cls := "java/util/LinkedList", name := "addAll", desc := "(ILjava/util/Collection;)Z" } : Jvm.MethodName)) ∈ lw_all := lw_g (lw_at lw_m6 45 rfl) rfl
theorem q1353 : (Jvm.Cond.selects "java/util/LinkedList" ({ cls := "java/util/LinkedList", name := "addAll", desc := "(ILjava/util/Collection;)Z" } : Jvm.MethodName) ({ cls := "java/util/LinkedList", name := "addAll", desc := "(ILjava/util/Collection;)Z" } : Jvm.MethodName)) ∈ lw_all := lw_g (lw_at lw_m6 46 rfl) rfl
theorem q1354 : (Jvm.Cond.code ({ cls := "java/util/LinkedList", name := "addAll", desc := "(ILjava/util/Collection;)Z" } : Jvm.MethodName) prog_74_method_20_code (13 : Nat) (Option.some Jvm.ClassFile.FieldType.boolean)) ∈ lw_all := lw_g (lw_at lw_m6 47 rfl) rfl
theorem q1356 : (Jvm.Cond.methodLink "java/util/LinkedList" (80 : Nat) ({ cls := "java/util/Collection", name := "toArray", desc := "()[Ljava/lang/Object;" } : Jvm.MethodName)) ∈ lw_all := lw_g (lw_at lw_m6 49 rfl) rfl
theorem q1357 : (Jvm.Cond.classLink "java/util/LinkedList" (22 : Nat) "java/util/LinkedList$Node") ∈ lw_all := lw_g (lw_at lw_m6 50 rfl) rfl
theorem q1359 : (Jvm.Cond.methodLink "java/util/LinkedList" (24 : Nat) ({ cls := "java/util/LinkedList$Node", name := "<init>", desc := "(Ljava/util/LinkedList$Node;Ljava/lang/Object;Ljava/util/LinkedList$Node;)V" } : Jvm.MethodName)) ∈ lw_all := lw_g (lw_at lw_m6 52 rfl) rfl
theorem q1360 : (Jvm.Cond.instanceMethod ({ cls := "java/util/LinkedList$Node", name := "<init>", desc := "(Ljava/util/LinkedList$Node;Ljava/lang/Object;Ljava/util/LinkedList$Node;)V" } : Jvm.MethodName)) ∈ lw_all := lw_g (lw_at lw_m6 53 rfl) rfl
theorem q1361 : (Jvm.Cond.code ({ cls := "java/util/LinkedList$Node", name := "<init>", desc := "(Ljava/util/LinkedList$Node;Ljava/lang/Object;Ljava/util/LinkedList$Node;)V" } : Jvm.MethodName) prog_76_method_1_code (4 : Nat) (Option.none : Option Jvm.ClassFile.FieldType)) ∈ lw_all := lw_g (lw_at lw_m6 54 rfl) rfl
theorem q1362 : (Jvm.Cond.methodLink "java/util/LinkedList$Node" (1 : Nat) ({ cls := "java/lang/Object", name := "<init>", desc := "()V" } : Jvm.MethodName)) ∈ lw_all := lw_g (lw_at lw_m6 55 rfl) rfl
theorem q1363 : (Jvm.Cond.fieldLink "java/util/LinkedList$Node" (7 : Nat) "java/util/LinkedList$Node" "item" "Ljava/lang/Object;") ∈ lw_all := lw_g (lw_at lw_m6 56 rfl) rfl
theorem q1364 : (Jvm.Cond.fieldLink "java/util/LinkedList$ListItr" (52 : Nat) "java/util/LinkedList$Node" "item" "Ljava/lang/Object;") ∈ lw_all := lw_g (lw_at lw_m6 57 rfl) rfl
theorem q1365 : (Jvm.Cond.fieldLink "java/util/LinkedList" (39 : Nat) "java/util/LinkedList$Node" "item" "Ljava/lang/Object;") ∈ lw_all := lw_g (lw_at lw_m6 58 rfl) rfl
theorem q1366 : (Jvm.Cond.fieldLink "java/util/LinkedList$Node" (13 : Nat) "java/util/LinkedList$Node" "next" "Ljava/util/LinkedList$Node;") ∈ lw_all := lw_g (lw_at lw_m6 59 rfl) rfl
theorem q1367 : (Jvm.Cond.fieldLink "java/util/LinkedList$ListItr" (49 : Nat) "java/util/LinkedList$Node" "next" "Ljava/util/LinkedList$Node;") ∈ lw_all := lw_g (lw_at lw_m6 60 rfl) rfl
theorem q1368 : (Jvm.Cond.fieldLink "java/util/LinkedList" (36 : Nat) "java/util/LinkedList$Node" "next" "Ljava/util/LinkedList$Node;") ∈ lw_all := lw_g (lw_at lw_m6 61 rfl) rfl
theorem q1369 : (Jvm.Cond.fieldLink "java/util/LinkedList$Node" (17 : Nat) "java/util/LinkedList$Node" "prev" "Ljava/util/LinkedList$Node;") ∈ lw_all := lw_g (lw_at lw_m6 62 rfl) rfl
theorem q1370 : (Jvm.Cond.fieldLink "java/util/LinkedList" (30 : Nat) "java/util/LinkedList$Node" "prev" "Ljava/util/LinkedList$Node;") ∈ lw_all := lw_g (lw_at lw_m6 63 rfl) rfl
theorem q1388 : (Jvm.Cond.methodLink "java/util/ArrayList" (131 : Nat) ({ cls := "java/util/ArrayList", name := "add", desc := "(Ljava/lang/Object;[Ljava/lang/Object;I)V" } : Jvm.MethodName)) ∈ lw_all := lw_g (lw_at lw_m6 81 rfl) rfl
theorem q1390 : (Jvm.Cond.instanceMethod ({ cls := "java/util/ArrayList", name := "add", desc := "(Ljava/lang/Object;[Ljava/lang/Object;I)V" } : Jvm.MethodName)) ∈ lw_all := lw_g (lw_at lw_m6 83 rfl) rfl
theorem q1391 : (Jvm.Cond.code ({ cls := "java/util/ArrayList", name := "add", desc := "(Ljava/lang/Object;[Ljava/lang/Object;I)V" } : Jvm.MethodName) prog_66_method_24_code (4 : Nat) (Option.none : Option Jvm.ClassFile.FieldType)) ∈ lw_all := lw_g (lw_at lw_m6 84 rfl) rfl
theorem q1392 : (Jvm.Cond.methodLink "java/util/ArrayList" (129 : Nat) ({ cls := "java/util/ArrayList", name := "grow", desc := "()[Ljava/lang/Object;" } : Jvm.MethodName)) ∈ lw_all := lw_g (lw_at lw_m6 85 rfl) rfl
theorem q1394 : (Jvm.Cond.instanceMethod ({ cls := "java/util/ArrayList", name := "grow", desc := "()[Ljava/lang/Object;" } : Jvm.MethodName)) ∈ lw_all := lw_g (lw_at lw_m6 87 rfl) rfl
theorem q1395 : (Jvm.Cond.code ({ cls := "java/util/ArrayList", name := "grow", desc := "()[Ljava/lang/Object;" } : Jvm.MethodName) prog_66_method_7_code (1 : Nat) (Option.some (Jvm.ClassFile.FieldType.array (Jvm.ClassFile.FieldType.object "java/lang/Object")))) ∈ lw_all := lw_g (lw_at lw_m6 88 rfl) rfl
theorem q1401 : (Jvm.Cond.methodLink "java/util/LinkedList" (57 : Nat) ({ cls := "java/util/LinkedList", name := "linkLast", desc := "(Ljava/lang/Object;)V" } : Jvm.MethodName)) ∈ lw_all := lw_g (lw_at lw_m6 94 rfl) rfl
theorem q1402 : (Jvm.Cond.instanceMethod ({ cls := "java/util/LinkedList", name := "linkLast", desc := "(Ljava/lang/Object;)V" } : Jvm.MethodName)) ∈ lw_all := lw_g (lw_at lw_m6 95 rfl) rfl
theorem q1403 : (Jvm.Cond.selects "java/util/LinkedList" ({ cls := "java/util/LinkedList", name := "linkLast", desc := "(Ljava/lang/Object;)V" } : Jvm.MethodName) ({ cls := "java/util/LinkedList", name := "linkLast", desc := "(Ljava/lang/Object;)V" } : Jvm.MethodName)) ∈ lw_all := lw_g (lw_at lw_m6 96 rfl) rfl
theorem q1404 : (Jvm.Cond.code ({ cls := "java/util/LinkedList", name := "linkLast", desc := "(Ljava/lang/Object;)V" } : Jvm.MethodName) prog_74_method_4_code (4 : Nat) (Option.none : Option Jvm.ClassFile.FieldType)) ∈ lw_all := lw_g (lw_at lw_m6 97 rfl) rfl
theorem q1420 : (Jvm.Cond.methodLink "java/util/TreeMap" (1 : Nat) ({ cls := "java/util/AbstractMap", name := "<init>", desc := "()V" } : Jvm.MethodName)) ∈ lw_all := lw_g (lw_at lw_m6 113 rfl) rfl
theorem q1421 : (Jvm.Cond.instanceMethod ({ cls := "java/util/AbstractMap", name := "<init>", desc := "()V" } : Jvm.MethodName)) ∈ lw_all := lw_g (lw_at lw_m6 114 rfl) rfl
theorem q1422 : (Jvm.Cond.code ({ cls := "java/util/AbstractMap", name := "<init>", desc := "()V" } : Jvm.MethodName) prog_63_method_1_code (1 : Nat) (Option.none : Option Jvm.ClassFile.FieldType)) ∈ lw_all := lw_g (lw_at lw_m6 115 rfl) rfl
theorem q1423 : (Jvm.Cond.methodLink "java/util/AbstractMap" (1 : Nat) ({ cls := "java/lang/Object", name := "<init>", desc := "()V" } : Jvm.MethodName)) ∈ lw_all := lw_g (lw_at lw_m6 116 rfl) rfl
theorem q1424 : (Jvm.Cond.fieldLink "java/util/TreeMap" (16 : Nat) "java/util/TreeMap" "comparator" "Ljava/util/Comparator;") ∈ lw_all := lw_g (lw_at lw_m6 117 rfl) rfl
theorem q1425 : (Jvm.Cond.fieldLink "java/util/TreeMap" (101 : Nat) "java/util/TreeMap" "root" "Ljava/util/TreeMap$Entry;") ∈ lw_all := lw_g (lw_at lw_m6 118 rfl) rfl
theorem q1426 : (Jvm.Cond.fieldLink "java/util/TreeMap" (7 : Nat) "java/util/TreeMap" "size" "I") ∈ lw_all := lw_g (lw_at lw_m6 119 rfl) rfl
theorem q1427 : (Jvm.Cond.fieldLinkNest "java/util/TreeMap$PrivateEntryIterator" (13 : Nat) "java/util/TreeMap" "modCount" "I" "java/util/TreeMap") ∈ lw_tbl := lw_at lw_m6 120 rfl
theorem mv1427 : (Jvm.Cond.fieldLinkNest "java/util/TreeMap$PrivateEntryIterator" (13 : Nat) "java/util/TreeMap" "modCount" "I" "java/util/TreeMap") ∈ lw_mv := List.mem_filter.mpr ⟨q1427, rfl⟩
theorem q1428 : (Jvm.Cond.fieldLink "java/util/TreeMap" (13 : Nat) "java/util/TreeMap" "modCount" "I") ∈ lw_all := lw_g (lw_at lw_m6 121 rfl) rfl
theorem q1430 : (Jvm.Cond.fieldLink "java/util/TreeMap" (191 : Nat) "java/util/TreeMap" "navigableKeySet" "Ljava/util/TreeMap$KeySet;") ∈ lw_all := lw_g (lw_at lw_m6 123 rfl) rfl
theorem q1431 : (Jvm.Cond.fieldLink "java/util/TreeMap" (233 : Nat) "java/util/TreeMap" "values" "Ljava/util/Collection;") ∈ lw_all := lw_g (lw_at lw_m6 124 rfl) rfl
theorem q1432 : (Jvm.Cond.sameField "java/util/TreeMap" "java/util/AbstractMap" "values" "Ljava/util/Collection;") ∈ lw_all := lw_g (lw_at lw_m6 125 rfl) rfl
theorem q1472 : (Jvm.Cond.methodLink "java/util/TreeMap" (219 : Nat) ({ cls := "java/util/TreeMap", name := "navigableKeySet", desc := "()Ljava/util/NavigableSet;" } : Jvm.MethodName)) ∈ lw_all := lw_g (lw_at lw_m6 165 rfl) rfl
theorem q1473 : (Jvm.Cond.instanceMethod ({ cls := "java/util/TreeMap", name := "navigableKeySet", desc := "()Ljava/util/NavigableSet;" } : Jvm.MethodName)) ∈ lw_all := lw_g (lw_at lw_m6 166 rfl) rfl
theorem q1474 : (Jvm.Cond.selects "java/util/TreeMap" ({ cls := "java/util/TreeMap", name := "navigableKeySet", desc := "()Ljava/util/NavigableSet;" } : Jvm.MethodName) ({ cls := "java/util/TreeMap", name := "navigableKeySet", desc := "()Ljava/util/NavigableSet;" } : Jvm.MethodName)) ∈ lw_all := lw_g (lw_at lw_m6 167 rfl) rfl
theorem q1475 : (Jvm.Cond.code ({ cls := "java/util/TreeMap", name := "navigableKeySet", desc := "()Ljava/util/NavigableSet;" } : Jvm.MethodName) prog_93_method_50_code (2 : Nat) (Option.some (Jvm.ClassFile.FieldType.object "java/util/NavigableSet"))) ∈ lw_all := lw_g (lw_at lw_m6 168 rfl) rfl
theorem q1476 : (Jvm.Cond.classLink "java/util/TreeMap" (222 : Nat) "java/util/TreeMap$KeySet") ∈ lw_all := lw_g (lw_at lw_m6 169 rfl) rfl
theorem q1478 : (Jvm.Cond.methodLink "java/util/TreeMap" (224 : Nat) ({ cls := "java/util/TreeMap$KeySet", name := "<init>", desc := "(Ljava/util/NavigableMap;)V" } : Jvm.MethodName)) ∈ lw_all := lw_g (lw_at lw_m6 171 rfl) rfl
theorem q1479 : (Jvm.Cond.instanceMethod ({ cls := "java/util/TreeMap$KeySet", name := "<init>", desc := "(Ljava/util/NavigableMap;)V" } : Jvm.MethodName)) ∈ lw_all := lw_g (lw_at lw_m6 172 rfl) rfl
theorem q1480 : (Jvm.Cond.code ({ cls := "java/util/TreeMap$KeySet", name := "<init>", desc := "(Ljava/util/NavigableMap;)V" } : Jvm.MethodName) prog_98_method_1_code (2 : Nat) (Option.none : Option Jvm.ClassFile.FieldType)) ∈ lw_all := lw_g (lw_at lw_m6 173 rfl) rfl
theorem q1481 : (Jvm.Cond.methodLink "java/util/TreeMap$KeySet" (1 : Nat) ({ cls := "java/util/AbstractSet", name := "<init>", desc := "()V" } : Jvm.MethodName)) ∈ lw_all := lw_g (lw_at lw_m6 174 rfl) rfl
theorem q1482 : (Jvm.Cond.instanceMethod ({ cls := "java/util/AbstractSet", name := "<init>", desc := "()V" } : Jvm.MethodName)) ∈ lw_all := lw_g (lw_at lw_m6 175 rfl) rfl
theorem q1483 : (Jvm.Cond.code ({ cls := "java/util/AbstractSet", name := "<init>", desc := "()V" } : Jvm.MethodName) prog_65_method_1_code (1 : Nat) (Option.none : Option Jvm.ClassFile.FieldType)) ∈ lw_all := lw_g (lw_at lw_m6 176 rfl) rfl
theorem q1484 : (Jvm.Cond.methodLink "java/util/AbstractSet" (1 : Nat) ({ cls := "java/util/AbstractCollection", name := "<init>", desc := "()V" } : Jvm.MethodName)) ∈ lw_all := lw_g (lw_at lw_m6 177 rfl) rfl
theorem q1485 : (Jvm.Cond.fieldLink "java/util/TreeMap$KeySet" (7 : Nat) "java/util/TreeMap$KeySet" "m" "Ljava/util/NavigableMap;") ∈ lw_all := lw_g (lw_at lw_m6 178 rfl) rfl
theorem q1505 : (Jvm.Cond.fieldLink "java/lang/Integer" (191 : Nat) "java/lang/Integer$IntegerCache" "high" "I") ∈ lw_all := lw_g (lw_at lw_m6 198 rfl) rfl
theorem q1507 : (Jvm.Cond.fieldLink "java/lang/Integer" (195 : Nat) "java/lang/Integer$IntegerCache" "cache" "[Ljava/lang/Integer;") ∈ lw_all := lw_g (lw_at lw_m6 200 rfl) rfl
theorem q1509 : (Jvm.Cond.classLink "java/lang/Integer" (1 : Nat) "java/lang/Integer") ∈ lw_all := lw_g (lw_at lw_m6 202 rfl) rfl
theorem q1511 : (Jvm.Cond.methodLink "java/lang/Integer" (199 : Nat) ({ cls := "java/lang/Integer", name := "<init>", desc := "(I)V" } : Jvm.MethodName)) ∈ lw_all := lw_g (lw_at lw_m6 204 rfl) rfl
theorem q1512 : (Jvm.Cond.instanceMethod ({ cls := "java/lang/Integer", name := "<init>", desc := "(I)V" } : Jvm.MethodName)) ∈ lw_all := lw_g (lw_at lw_m6 205 rfl) rfl
theorem q1513 : (Jvm.Cond.code ({ cls := "java/lang/Integer", name := "<init>", desc := "(I)V" } : Jvm.MethodName) prog_40_method_23_code (2 : Nat) (Option.none : Option Jvm.ClassFile.FieldType)) ∈ lw_all := lw_g (lw_at lw_m6 206 rfl) rfl
theorem q1514 : (Jvm.Cond.methodLink "java/lang/Integer" (202 : Nat) ({ cls := "java/lang/Number", name := "<init>", desc := "()V" } : Jvm.MethodName)) ∈ lw_all := lw_g (lw_at lw_m6 207 rfl) rfl
theorem q1515 : (Jvm.Cond.instanceMethod ({ cls := "java/lang/Number", name := "<init>", desc := "()V" } : Jvm.MethodName)) ∈ lw_all := lw_g (lw_at lw_m6 208 rfl) rfl
theorem q1516 : (Jvm.Cond.code ({ cls := "java/lang/Number", name := "<init>", desc := "()V" } : Jvm.MethodName) prog_45_method_1_code (1 : Nat) (Option.none : Option Jvm.ClassFile.FieldType)) ∈ lw_all := lw_g (lw_at lw_m6 209 rfl) rfl
theorem q1517 : (Jvm.Cond.methodLink "java/lang/Number" (1 : Nat) ({ cls := "java/lang/Object", name := "<init>", desc := "()V" } : Jvm.MethodName)) ∈ lw_all := lw_g (lw_at lw_m6 210 rfl) rfl
theorem q1518 : (Jvm.Cond.fieldLink "java/lang/Integer" (205 : Nat) "java/lang/Integer" "value" "I") ∈ lw_all := lw_g (lw_at lw_m6 211 rfl) rfl
theorem q1526 : (Jvm.Cond.methodLink "java/util/TreeMap" (50 : Nat) ({ cls := "java/util/TreeMap", name := "getEntry", desc := "(Ljava/lang/Object;)Ljava/util/TreeMap$Entry;" } : Jvm.MethodName)) ∈ lw_all := lw_g (lw_at lw_m6 219 rfl) rfl
theorem q1527 : (Jvm.Cond.instanceMethod ({ cls := "java/util/TreeMap", name := "getEntry", desc := "(Ljava/lang/Object;)Ljava/util/TreeMap$Entry;" } : Jvm.MethodName)) ∈ lw_all := lw_g (lw_at lw_m6 220 rfl) rfl
theorem q1528 : (Jvm.Cond.selects "java/util/TreeMap" ({ cls := "java/util/TreeMap", name := "getEntry", desc := "(Ljava/lang/Object;)Ljava/util/TreeMap$Entry;" } : Jvm.MethodName) ({ cls := "java/util/TreeMap", name := "getEntry", desc := "(Ljava/lang/Object;)Ljava/util/TreeMap$Entry;" } : Jvm.MethodName)) ∈ lw_all := lw_g (lw_at lw_m6 221 rfl) rfl
theorem q1529 : (Jvm.Cond.code ({ cls := "java/util/TreeMap", name := "getEntry", desc := "(Ljava/lang/Object;)Ljava/util/TreeMap$Entry;" } : Jvm.MethodName) prog_93_method_15_code (5 : Nat) (Option.some (Jvm.ClassFile.FieldType.object "java/util/TreeMap$Entry"))) ∈ lw_all := lw_g (lw_at lw_m6 222 rfl) rfl
theorem q1530 : (Jvm.Cond.methodLink "java/util/TreeMap" (92 : Nat) ({ cls := "java/util/TreeMap", name := "getEntryUsingComparator", desc := "(Ljava/lang/Object;)Ljava/util/TreeMap$Entry;" } : Jvm.MethodName)) ∈ lw_all := lw_g (lw_at lw_m6 223 rfl) rfl
theorem q1531 : (Jvm.Cond.instanceMethod ({ cls := "java/util/TreeMap", name := "getEntryUsingComparator", desc := "(Ljava/lang/Object;)Ljava/util/TreeMap$Entry;" } : Jvm.MethodName)) ∈ lw_all := lw_g (lw_at lw_m6 224 rfl) rfl
theorem q1532 : (Jvm.Cond.selects "java/util/TreeMap" ({ cls := "java/util/TreeMap", name := "getEntryUsingComparator", desc := "(Ljava/lang/Object;)Ljava/util/TreeMap$Entry;" } : Jvm.MethodName) ({ cls := "java/util/TreeMap", name := "getEntryUsingComparator", desc := "(Ljava/lang/Object;)Ljava/util/TreeMap$Entry;" } : Jvm.MethodName)) ∈ lw_all := lw_g (lw_at lw_m6 225 rfl) rfl
theorem q1533 : (Jvm.Cond.code ({ cls := "java/util/TreeMap", name := "getEntryUsingComparator", desc := "(Ljava/lang/Object;)Ljava/util/TreeMap$Entry;" } : Jvm.MethodName) prog_93_method_16_code (6 : Nat) (Option.some (Jvm.ClassFile.FieldType.object "java/util/TreeMap$Entry"))) ∈ lw_all := lw_g (lw_at lw_m6 226 rfl) rfl
theorem q1538 : (Jvm.Cond.methodLink "java/util/TreeMap" (95 : Nat) ({ cls := "java/util/Objects", name := "requireNonNull", desc := "(Ljava/lang/Object;)Ljava/lang/Object;" } : Jvm.MethodName)) ∈ lw_all := lw_g (lw_at lw_m6 231 rfl) rfl
theorem q1539 : (Jvm.Cond.static ({ cls := "java/util/Objects", name := "requireNonNull", desc := "(Ljava/lang/Object;)Ljava/lang/Object;" } : Jvm.MethodName)) ∈ lw_all := lw_g (lw_at lw_m6 232 rfl) rfl
theorem q1540 : (Jvm.Cond.code ({ cls := "java/util/Objects", name := "requireNonNull", desc := "(Ljava/lang/Object;)Ljava/lang/Object;" } : Jvm.MethodName) prog_84_method_10_code (1 : Nat) (Option.some (Jvm.ClassFile.FieldType.object "java/lang/Object"))) ∈ lw_all := lw_g (lw_at lw_m6 233 rfl) rfl
theorem q1541 : (Jvm.Cond.classLink "java/util/TreeMap" (99 : Nat) "java/lang/Comparable") ∈ lw_all := lw_g (lw_at lw_m6 234 rfl) rfl
theorem q1543 : (Jvm.Cond.methodLink "java/util/TreeMap" (107 : Nat) ({ cls := "java/lang/Comparable", name := "compareTo", desc := "(Ljava/lang/Object;)I" } : Jvm.MethodName)) ∈ lw_all := lw_g (lw_at lw_m6 236 rfl) rfl
theorem q1546 : (Jvm.Cond.castable "BanquetVotes$How$1" "java/lang/Comparable") ∈ lw_tbl := lw_at lw_m6 239 rfl
theorem mv1546 : (Jvm.Cond.castable "BanquetVotes$How$1" "java/lang/Comparable") ∈ lw_mv := List.mem_filter.mpr ⟨q1546, rfl⟩
theorem q1572 : (Jvm.Cond.castable "BanquetVotes$How$2" "java/lang/Comparable") ∈ lw_tbl := lw_at lw_m7 25 rfl
theorem mv1572 : (Jvm.Cond.castable "BanquetVotes$How$2" "java/lang/Comparable") ∈ lw_mv := List.mem_filter.mpr ⟨q1572, rfl⟩
theorem q1575 : (Jvm.Cond.castable "BanquetVotes$How$3" "java/lang/Comparable") ∈ lw_tbl := lw_at lw_m7 28 rfl
theorem mv1575 : (Jvm.Cond.castable "BanquetVotes$How$3" "java/lang/Comparable") ∈ lw_mv := List.mem_filter.mpr ⟨q1575, rfl⟩
theorem q1578 : (Jvm.Cond.castable "BanquetVotes$How$4" "java/lang/Comparable") ∈ lw_tbl := lw_at lw_m7 31 rfl
theorem mv1578 : (Jvm.Cond.castable "BanquetVotes$How$4" "java/lang/Comparable") ∈ lw_mv := List.mem_filter.mpr ⟨q1578, rfl⟩
theorem q1581 : (Jvm.Cond.castable "BanquetVotes$How$5" "java/lang/Comparable") ∈ lw_tbl := lw_at lw_m7 34 rfl
theorem mv1581 : (Jvm.Cond.castable "BanquetVotes$How$5" "java/lang/Comparable") ∈ lw_mv := List.mem_filter.mpr ⟨q1581, rfl⟩
theorem q1584 : (Jvm.Cond.castable "java/lang/Integer" "java/lang/Comparable") ∈ lw_tbl := lw_at lw_m7 37 rfl
theorem mv1584 : (Jvm.Cond.castable "java/lang/Integer" "java/lang/Comparable") ∈ lw_mv := List.mem_filter.mpr ⟨q1584, rfl⟩
theorem q1585 : (Jvm.Cond.selects "java/lang/Integer" ({ cls := "java/lang/Comparable", name := "compareTo", desc := "(Ljava/lang/Object;)I" } : Jvm.MethodName) ({ cls := "java/lang/Integer", name := "compareTo", desc := "(Ljava/lang/Object;)I" } : Jvm.MethodName)) ∈ lw_all := lw_g (lw_at lw_m7 38 rfl) rfl
theorem q1587 : (Jvm.Cond.instanceMethod ({ cls := "java/lang/Integer", name := "compareTo", desc := "(Ljava/lang/Object;)I" } : Jvm.MethodName)) ∈ lw_all := lw_g (lw_at lw_m7 40 rfl) rfl
theorem q1589 : (Jvm.Cond.code ({ cls := "java/lang/Integer", name := "compareTo", desc := "(Ljava/lang/Object;)I" } : Jvm.MethodName) prog_40_method_63_code (2 : Nat) (Option.some Jvm.ClassFile.FieldType.int)) ∈ lw_all := lw_g (lw_at lw_m7 42 rfl) rfl
theorem q1590 : (Jvm.Cond.methodLink "java/lang/Integer" (284 : Nat) ({ cls := "java/lang/Integer", name := "compareTo", desc := "(Ljava/lang/Integer;)I" } : Jvm.MethodName)) ∈ lw_all := lw_g (lw_at lw_m7 43 rfl) rfl
theorem q1591 : (Jvm.Cond.instanceMethod ({ cls := "java/lang/Integer", name := "compareTo", desc := "(Ljava/lang/Integer;)I" } : Jvm.MethodName)) ∈ lw_all := lw_g (lw_at lw_m7 44 rfl) rfl
theorem q1592 : (Jvm.Cond.selects "java/lang/Integer" ({ cls := "java/lang/Integer", name := "compareTo", desc := "(Ljava/lang/Integer;)I" } : Jvm.MethodName) ({ cls := "java/lang/Integer", name := "compareTo", desc := "(Ljava/lang/Integer;)I" } : Jvm.MethodName)) ∈ lw_all := lw_g (lw_at lw_m7 45 rfl) rfl
theorem q1593 : (Jvm.Cond.code ({ cls := "java/lang/Integer", name := "compareTo", desc := "(Ljava/lang/Integer;)I" } : Jvm.MethodName) prog_40_method_39_code (2 : Nat) (Option.some Jvm.ClassFile.FieldType.int)) ∈ lw_all := lw_g (lw_at lw_m7 46 rfl) rfl
theorem q1594 : (Jvm.Cond.methodLink "java/lang/Integer" (259 : Nat) ({ cls := "java/lang/Integer", name := "compare", desc := "(II)I" } : Jvm.MethodName)) ∈ lw_all := lw_g (lw_at lw_m7 47 rfl) rfl
theorem q1595 : (Jvm.Cond.static ({ cls := "java/lang/Integer", name := "compare", desc := "(II)I" } : Jvm.MethodName)) ∈ lw_all := lw_g (lw_at lw_m7 48 rfl) rfl
theorem q1596 : (Jvm.Cond.code ({ cls := "java/lang/Integer", name := "compare", desc := "(II)I" } : Jvm.MethodName) prog_40_method_40_code (2 : Nat) (Option.some Jvm.ClassFile.FieldType.int)) ∈ lw_all := lw_g (lw_at lw_m7 49 rfl) rfl
theorem q1597 : (Jvm.Cond.castable "java/lang/String" "java/lang/Comparable") ∈ lw_tbl := lw_at lw_m7 50 rfl
theorem mv1597 : (Jvm.Cond.castable "java/lang/String" "java/lang/Comparable") ∈ lw_mv := List.mem_filter.mpr ⟨q1597, rfl⟩
theorem q1744 : (Jvm.Cond.castable "java/lang/StringBuilder" "java/lang/Comparable") ∈ lw_tbl := lw_at lw_m7 197 rfl
theorem mv1744 : (Jvm.Cond.castable "java/lang/StringBuilder" "java/lang/Comparable") ∈ lw_mv := List.mem_filter.mpr ⟨q1744, rfl⟩
theorem q1805 : (Jvm.Cond.methodLink "java/util/TreeMap" (127 : Nat) ({ cls := "java/util/TreeMap", name := "put", desc := "(Ljava/lang/Object;Ljava/lang/Object;Z)Ljava/lang/Object;" } : Jvm.MethodName)) ∈ lw_all := lw_g (lw_at lw_m8 18 rfl) rfl
theorem q1807 : (Jvm.Cond.instanceMethod ({ cls := "java/util/TreeMap", name := "put", desc := "(Ljava/lang/Object;Ljava/lang/Object;Z)Ljava/lang/Object;" } : Jvm.MethodName)) ∈ lw_all := lw_g (lw_at lw_m8 20 rfl) rfl
theorem q1808 : (Jvm.Cond.code ({ cls := "java/util/TreeMap", name := "put", desc := "(Ljava/lang/Object;Ljava/lang/Object;Z)Ljava/lang/Object;" } : Jvm.MethodName) prog_93_method_31_code (10 : Nat) (Option.some (Jvm.ClassFile.FieldType.object "java/lang/Object"))) ∈ lw_all := lw_g (lw_at lw_m8 21 rfl) rfl
theorem q1809 : (Jvm.Cond.methodLink "java/util/TreeMap" (135 : Nat) ({ cls := "java/util/TreeMap", name := "addEntryToEmptyMap", desc := "(Ljava/lang/Object;Ljava/lang/Object;)V" } : Jvm.MethodName)) ∈ lw_all := lw_g (lw_at lw_m8 22 rfl) rfl
theorem q1811 : (Jvm.Cond.instanceMethod ({ cls := "java/util/TreeMap", name := "addEntryToEmptyMap", desc := "(Ljava/lang/Object;Ljava/lang/Object;)V" } : Jvm.MethodName)) ∈ lw_all := lw_g (lw_at lw_m8 24 rfl) rfl
theorem q1812 : (Jvm.Cond.code ({ cls := "java/util/TreeMap", name := "addEntryToEmptyMap", desc := "(Ljava/lang/Object;Ljava/lang/Object;)V" } : Jvm.MethodName) prog_93_method_30_code (3 : Nat) (Option.none : Option Jvm.ClassFile.FieldType)) ∈ lw_all := lw_g (lw_at lw_m8 25 rfl) rfl
theorem q1813 : (Jvm.Cond.methodLink "java/util/TreeMap" (123 : Nat) ({ cls := "java/util/TreeMap", name := "compare", desc := "(Ljava/lang/Object;Ljava/lang/Object;)I" } : Jvm.MethodName)) ∈ lw_all := lw_g (lw_at lw_m8 26 rfl) rfl
theorem q1814 : (Jvm.Cond.instanceMethod ({ cls := "java/util/TreeMap", name := "compare", desc := "(Ljava/lang/Object;Ljava/lang/Object;)I" } : Jvm.MethodName)) ∈ lw_all := lw_g (lw_at lw_m8 27 rfl) rfl
theorem q1815 : (Jvm.Cond.selects "java/util/TreeMap" ({ cls := "java/util/TreeMap", name := "compare", desc := "(Ljava/lang/Object;Ljava/lang/Object;)I" } : Jvm.MethodName) ({ cls := "java/util/TreeMap", name := "compare", desc := "(Ljava/lang/Object;Ljava/lang/Object;)I" } : Jvm.MethodName)) ∈ lw_all := lw_g (lw_at lw_m8 28 rfl) rfl
theorem q1816 : (Jvm.Cond.code ({ cls := "java/util/TreeMap", name := "compare", desc := "(Ljava/lang/Object;Ljava/lang/Object;)I" } : Jvm.MethodName) prog_93_method_67_code (3 : Nat) (Option.some Jvm.ClassFile.FieldType.int)) ∈ lw_all := lw_g (lw_at lw_m8 29 rfl) rfl
theorem q1817 : (Jvm.Cond.classLink "java/util/TreeMap" (59 : Nat) "java/util/TreeMap$Entry") ∈ lw_all := lw_g (lw_at lw_m8 30 rfl) rfl
theorem q1819 : (Jvm.Cond.methodLink "java/util/TreeMap" (167 : Nat) ({ cls := "java/util/TreeMap$Entry", name := "<init>", desc := "(Ljava/lang/Object;Ljava/lang/Object;Ljava/util/TreeMap$Entry;)V" } : Jvm.MethodName)) ∈ lw_all := lw_g (lw_at lw_m8 32 rfl) rfl
theorem q1820 : (Jvm.Cond.instanceMethod ({ cls := "java/util/TreeMap$Entry", name := "<init>", desc := "(Ljava/lang/Object;Ljava/lang/Object;Ljava/util/TreeMap$Entry;)V" } : Jvm.MethodName)) ∈ lw_all := lw_g (lw_at lw_m8 33 rfl) rfl
theorem q1821 : (Jvm.Cond.code ({ cls := "java/util/TreeMap$Entry", name := "<init>", desc := "(Ljava/lang/Object;Ljava/lang/Object;Ljava/util/TreeMap$Entry;)V" } : Jvm.MethodName) prog_94_method_1_code (4 : Nat) (Option.none : Option Jvm.ClassFile.FieldType)) ∈ lw_all := lw_g (lw_at lw_m8 34 rfl) rfl
theorem q1822 : (Jvm.Cond.methodLink "java/util/TreeMap$Entry" (3 : Nat) ({ cls := "java/lang/Object", name := "<init>", desc := "()V" } : Jvm.MethodName)) ∈ lw_all := lw_g (lw_at lw_m8 35 rfl) rfl
theorem q1823 : (Jvm.Cond.fieldLink "java/util/TreeMap$Entry" (15 : Nat) "java/util/TreeMap$Entry" "key" "Ljava/lang/Object;") ∈ lw_all := lw_g (lw_at lw_m8 36 rfl) rfl
theorem q1824 : (Jvm.Cond.fieldLink "java/util/TreeMap$KeyIterator" (13 : Nat) "java/util/TreeMap$Entry" "key" "Ljava/lang/Object;") ∈ lw_all := lw_g (lw_at lw_m8 37 rfl) rfl
theorem q1825 : (Jvm.Cond.fieldLink "java/util/TreeMap" (105 : Nat) "java/util/TreeMap$Entry" "key" "Ljava/lang/Object;") ∈ lw_all := lw_g (lw_at lw_m8 38 rfl) rfl
theorem q1826 : (Jvm.Cond.fieldLink "java/util/TreeMap$Entry" (19 : Nat) "java/util/TreeMap$Entry" "value" "Ljava/lang/Object;") ∈ lw_all := lw_g (lw_at lw_m8 39 rfl) rfl
theorem q1827 : (Jvm.Cond.fieldLink "java/util/TreeMap$ValueIterator" (13 : Nat) "java/util/TreeMap$Entry" "value" "Ljava/lang/Object;") ∈ lw_all := lw_g (lw_at lw_m8 40 rfl) rfl
theorem q1828 : (Jvm.Cond.fieldLink "java/util/TreeMap" (58 : Nat) "java/util/TreeMap$Entry" "value" "Ljava/lang/Object;") ∈ lw_all := lw_g (lw_at lw_m8 41 rfl) rfl
theorem q1829 : (Jvm.Cond.fieldLink "java/util/TreeMap" (111 : Nat) "java/util/TreeMap$Entry" "left" "Ljava/util/TreeMap$Entry;") ∈ lw_all := lw_g (lw_at lw_m8 42 rfl) rfl
theorem q1830 : (Jvm.Cond.fieldLink "java/util/TreeMap" (114 : Nat) "java/util/TreeMap$Entry" "right" "Ljava/util/TreeMap$Entry;") ∈ lw_all := lw_g (lw_at lw_m8 43 rfl) rfl
theorem q1831 : (Jvm.Cond.fieldLink "java/util/TreeMap$Entry" (22 : Nat) "java/util/TreeMap$Entry" "parent" "Ljava/util/TreeMap$Entry;") ∈ lw_all := lw_g (lw_at lw_m8 44 rfl) rfl
theorem q1832 : (Jvm.Cond.fieldLink "java/util/TreeMap" (124 : Nat) "java/util/TreeMap$Entry" "parent" "Ljava/util/TreeMap$Entry;") ∈ lw_all := lw_g (lw_at lw_m8 45 rfl) rfl
theorem q1833 : (Jvm.Cond.fieldLink "java/util/TreeMap$Entry" (9 : Nat) "java/util/TreeMap$Entry" "color" "Z") ∈ lw_all := lw_g (lw_at lw_m8 46 rfl) rfl
theorem q1834 : (Jvm.Cond.fieldLink "java/util/TreeMap" (290 : Nat) "java/util/TreeMap$Entry" "color" "Z") ∈ lw_all := lw_g (lw_at lw_m8 47 rfl) rfl
theorem q1848 : (Jvm.Cond.methodLink "java/util/TreeMap" (139 : Nat) ({ cls := "java/util/TreeMap", name := "addEntry", desc := "(Ljava/lang/Object;Ljava/lang/Object;Ljava/util/TreeMap$Entry;Z)V" } : Jvm.MethodName)) ∈ lw_all := lw_g (lw_at lw_m8 61 rfl) rfl
theorem q1850 : (Jvm.Cond.instanceMethod ({ cls := "java/util/TreeMap", name := "addEntry", desc := "(Ljava/lang/Object;Ljava/lang/Object;Ljava/util/TreeMap$Entry;Z)V" } : Jvm.MethodName)) ∈ lw_all := lw_g (lw_at lw_m8 63 rfl) rfl
theorem q1851 : (Jvm.Cond.code ({ cls := "java/util/TreeMap", name := "addEntry", desc := "(Ljava/lang/Object;Ljava/lang/Object;Ljava/util/TreeMap$Entry;Z)V" } : Jvm.MethodName) prog_93_method_29_code (6 : Nat) (Option.none : Option Jvm.ClassFile.FieldType)) ∈ lw_all := lw_g (lw_at lw_m8 64 rfl) rfl
theorem q1852 : (Jvm.Cond.methodLink "java/util/TreeMap" (170 : Nat) ({ cls := "java/util/TreeMap", name := "fixAfterInsertion", desc := "(Ljava/util/TreeMap$Entry;)V" } : Jvm.MethodName)) ∈ lw_all := lw_g (lw_at lw_m8 65 rfl) rfl
theorem q1854 : (Jvm.Cond.instanceMethod ({ cls := "java/util/TreeMap", name := "fixAfterInsertion", desc := "(Ljava/util/TreeMap$Entry;)V" } : Jvm.MethodName)) ∈ lw_all := lw_g (lw_at lw_m8 67 rfl) rfl
theorem q1855 : (Jvm.Cond.code ({ cls := "java/util/TreeMap", name := "fixAfterInsertion", desc := "(Ljava/util/TreeMap$Entry;)V" } : Jvm.MethodName) prog_93_method_83_code (3 : Nat) (Option.none : Option Jvm.ClassFile.FieldType)) ∈ lw_all := lw_g (lw_at lw_m8 68 rfl) rfl
theorem q1856 : (Jvm.Cond.methodLink "java/util/TreeMap" (294 : Nat) ({ cls := "java/util/TreeMap", name := "parentOf", desc := "(Ljava/util/TreeMap$Entry;)Ljava/util/TreeMap$Entry;" } : Jvm.MethodName)) ∈ lw_all := lw_g (lw_at lw_m8 69 rfl) rfl
theorem q1857 : (Jvm.Cond.static ({ cls := "java/util/TreeMap", name := "parentOf", desc := "(Ljava/util/TreeMap$Entry;)Ljava/util/TreeMap$Entry;" } : Jvm.MethodName)) ∈ lw_all := lw_g (lw_at lw_m8 70 rfl) rfl
theorem q1858 : (Jvm.Cond.code ({ cls := "java/util/TreeMap", name := "parentOf", desc := "(Ljava/util/TreeMap$Entry;)Ljava/util/TreeMap$Entry;" } : Jvm.MethodName) prog_93_method_77_code (1 : Nat) (Option.some (Jvm.ClassFile.FieldType.object "java/util/TreeMap$Entry"))) ∈ lw_all := lw_g (lw_at lw_m8 71 rfl) rfl
theorem q1859 : (Jvm.Cond.methodLink "java/util/TreeMap" (297 : Nat) ({ cls := "java/util/TreeMap", name := "leftOf", desc := "(Ljava/util/TreeMap$Entry;)Ljava/util/TreeMap$Entry;" } : Jvm.MethodName)) ∈ lw_all := lw_g (lw_at lw_m8 72 rfl) rfl
theorem q1860 : (Jvm.Cond.static ({ cls := "java/util/TreeMap", name := "leftOf", desc := "(Ljava/util/TreeMap$Entry;)Ljava/util/TreeMap$Entry;" } : Jvm.MethodName)) ∈ lw_all := lw_g (lw_at lw_m8 73 rfl) rfl
theorem q1861 : (Jvm.Cond.code ({ cls := "java/util/TreeMap", name := "leftOf", desc := "(Ljava/util/TreeMap$Entry;)Ljava/util/TreeMap$Entry;" } : Jvm.MethodName) prog_93_method_79_code (1 : Nat) (Option.some (Jvm.ClassFile.FieldType.object "java/util/TreeMap$Entry"))) ∈ lw_all := lw_g (lw_at lw_m8 74 rfl) rfl
theorem q1862 : (Jvm.Cond.methodLink "java/util/TreeMap" (300 : Nat) ({ cls := "java/util/TreeMap", name := "rightOf", desc := "(Ljava/util/TreeMap$Entry;)Ljava/util/TreeMap$Entry;" } : Jvm.MethodName)) ∈ lw_all := lw_g (lw_at lw_m8 75 rfl) rfl
theorem q1863 : (Jvm.Cond.static ({ cls := "java/util/TreeMap", name := "rightOf", desc := "(Ljava/util/TreeMap$Entry;)Ljava/util/TreeMap$Entry;" } : Jvm.MethodName)) ∈ lw_all := lw_g (lw_at lw_m8 76 rfl) rfl
theorem q1864 : (Jvm.Cond.code ({ cls := "java/util/TreeMap", name := "rightOf", desc := "(Ljava/util/TreeMap$Entry;)Ljava/util/TreeMap$Entry;" } : Jvm.MethodName) prog_93_method_80_code (1 : Nat) (Option.some (Jvm.ClassFile.FieldType.object "java/util/TreeMap$Entry"))) ∈ lw_all := lw_g (lw_at lw_m8 77 rfl) rfl
theorem q1865 : (Jvm.Cond.methodLink "java/util/TreeMap" (303 : Nat) ({ cls := "java/util/TreeMap", name := "colorOf", desc := "(Ljava/util/TreeMap$Entry;)Z" } : Jvm.MethodName)) ∈ lw_all := lw_g (lw_at lw_m8 78 rfl) rfl
theorem q1866 : (Jvm.Cond.static ({ cls := "java/util/TreeMap", name := "colorOf", desc := "(Ljava/util/TreeMap$Entry;)Z" } : Jvm.MethodName)) ∈ lw_all := lw_g (lw_at lw_m8 79 rfl) rfl
theorem q1867 : (Jvm.Cond.code ({ cls := "java/util/TreeMap", name := "colorOf", desc := "(Ljava/util/TreeMap$Entry;)Z" } : Jvm.MethodName) prog_93_method_76_code (1 : Nat) (Option.some Jvm.ClassFile.FieldType.boolean)) ∈ lw_all := lw_g (lw_at lw_m8 80 rfl) rfl
theorem q1868 : (Jvm.Cond.methodLink "java/util/TreeMap" (307 : Nat) ({ cls := "java/util/TreeMap", name := "setColor", desc := "(Ljava/util/TreeMap$Entry;Z)V" } : Jvm.MethodName)) ∈ lw_all := lw_g (lw_at lw_m8 81 rfl) rfl
theorem q1869 : (Jvm.Cond.static ({ cls := "java/util/TreeMap", name := "setColor", desc := "(Ljava/util/TreeMap$Entry;Z)V" } : Jvm.MethodName)) ∈ lw_all := lw_g (lw_at lw_m8 82 rfl) rfl
theorem q1870 : (Jvm.Cond.code ({ cls := "java/util/TreeMap", name := "setColor", desc := "(Ljava/util/TreeMap$Entry;Z)V" } : Jvm.MethodName) prog_93_method_78_code (2 : Nat) (Option.none : Option Jvm.ClassFile.FieldType)) ∈ lw_all := lw_g (lw_at lw_m8 83 rfl) rfl
theorem q1871 : (Jvm.Cond.methodLink "java/util/TreeMap" (311 : Nat) ({ cls := "java/util/TreeMap", name := "rotateLeft", desc := "(Ljava/util/TreeMap$Entry;)V" } : Jvm.MethodName)) ∈ lw_all := lw_g (lw_at lw_m8 84 rfl) rfl
theorem q1873 : (Jvm.Cond.instanceMethod ({ cls := "java/util/TreeMap", name := "rotateLeft", desc := "(Ljava/util/TreeMap$Entry;)V" } : Jvm.MethodName)) ∈ lw_all := lw_g (lw_at lw_m8 86 rfl) rfl
theorem q1874 : (Jvm.Cond.code ({ cls := "java/util/TreeMap", name := "rotateLeft", desc := "(Ljava/util/TreeMap$Entry;)V" } : Jvm.MethodName) prog_93_method_81_code (3 : Nat) (Option.none : Option Jvm.ClassFile.FieldType)) ∈ lw_all := lw_g (lw_at lw_m8 87 rfl) rfl
theorem q1875 : (Jvm.Cond.methodLink "java/util/TreeMap" (314 : Nat) ({ cls := "java/util/TreeMap", name := "rotateRight", desc := "(Ljava/util/TreeMap$Entry;)V" } : Jvm.MethodName)) ∈ lw_all := lw_g (lw_at lw_m8 88 rfl) rfl
theorem q1877 : (Jvm.Cond.instanceMethod ({ cls := "java/util/TreeMap", name := "rotateRight", desc := "(Ljava/util/TreeMap$Entry;)V" } : Jvm.MethodName)) ∈ lw_all := lw_g (lw_at lw_m8 90 rfl) rfl
theorem q1878 : (Jvm.Cond.code ({ cls := "java/util/TreeMap", name := "rotateRight", desc := "(Ljava/util/TreeMap$Entry;)V" } : Jvm.MethodName) prog_93_method_82_code (3 : Nat) (Option.none : Option Jvm.ClassFile.FieldType)) ∈ lw_all := lw_g (lw_at lw_m8 91 rfl) rfl
theorem q1914 : (Jvm.Cond.methodLink "java/lang/Exception" (10 : Nat) ({ cls := "java/lang/Throwable", name := "<init>", desc := "(Ljava/lang/String;Ljava/lang/Throwable;)V" } : Jvm.MethodName)) ∈ lw_all := lw_g (lw_at lw_m8 127 rfl) rfl
theorem q1915 : (Jvm.Cond.instanceMethod ({ cls := "java/lang/Throwable", name := "<init>", desc := "(Ljava/lang/String;Ljava/lang/Throwable;)V" } : Jvm.MethodName)) ∈ lw_all := lw_g (lw_at lw_m8 128 rfl) rfl
theorem q1916 : (Jvm.Cond.code ({ cls := "java/lang/Throwable", name := "<init>", desc := "(Ljava/lang/String;Ljava/lang/Throwable;)V" } : Jvm.MethodName) prog_55_method_3_code (3 : Nat) (Option.none : Option Jvm.ClassFile.FieldType)) ∈ lw_all := lw_g (lw_at lw_m8 129 rfl) rfl
theorem q1937 : (Jvm.Cond.methodLink "java/util/LinkedList" (46 : Nat) ({ cls := "java/util/LinkedList", name := "unlinkFirst", desc := "(Ljava/util/LinkedList$Node;)Ljava/lang/Object;" } : Jvm.MethodName)) ∈ lw_all := lw_g (lw_at lw_m8 150 rfl) rfl
theorem q1939 : (Jvm.Cond.instanceMethod ({ cls := "java/util/LinkedList", name := "unlinkFirst", desc := "(Ljava/util/LinkedList$Node;)Ljava/lang/Object;" } : Jvm.MethodName)) ∈ lw_all := lw_g (lw_at lw_m8 152 rfl) rfl
theorem q1940 : (Jvm.Cond.code ({ cls := "java/util/LinkedList", name := "unlinkFirst", desc := "(Ljava/util/LinkedList$Node;)Ljava/lang/Object;" } : Jvm.MethodName) prog_74_method_6_code (4 : Nat) (Option.some (Jvm.ClassFile.FieldType.object "java/lang/Object"))) ∈ lw_all := lw_g (lw_at lw_m8 153 rfl) rfl
theorem q1969 : (Jvm.Cond.methodLink "java/lang/UnsupportedOperationException" (1 : Nat) ({ cls := "java/lang/RuntimeException", name := "<init>", desc := "()V" } : Jvm.MethodName)) ∈ lw_all := lw_g (lw_at lw_m8 182 rfl) rfl
theorem q2012 : (Jvm.Cond.methodLink "java/lang/IndexOutOfBoundsException" (1 : Nat) ({ cls := "java/lang/RuntimeException", name := "<init>", desc := "()V" } : Jvm.MethodName)) ∈ lw_all := lw_g (lw_at lw_m8 225 rfl) rfl
theorem q3890 : (Jvm.Cond.selects "java/util/LinkedList$ListItr" ({ cls := "java/util/LinkedList$ListItr", name := "hasNext", desc := "()Z" } : Jvm.MethodName) ({ cls := "java/util/LinkedList$ListItr", name := "hasNext", desc := "()Z" } : Jvm.MethodName)) ∈ lw_all := lw_g (lw_at lw_m16 183 rfl) rfl
theorem q3972 : (Jvm.Cond.selects "[Ljava/lang/Object;" ({ cls := "java/lang/Object", name := "getClass", desc := "()Ljava/lang/Class;" } : Jvm.MethodName) ({ cls := "java/lang/Object", name := "getClass", desc := "()Ljava/lang/Class;" } : Jvm.MethodName)) ∈ lw_all := lw_g (lw_at lw_m17 25 rfl) rfl
theorem q3973 : (Jvm.Cond.declares ({ cls := "java/lang/Object", name := "getClass", desc := "()Ljava/lang/Class;" } : Jvm.MethodName)) ∈ lw_tbl := lw_at lw_m17 26 rfl
theorem mv3973 : (Jvm.Cond.declares ({ cls := "java/lang/Object", name := "getClass", desc := "()Ljava/lang/Class;" } : Jvm.MethodName)) ∈ lw_mv := List.mem_filter.mpr ⟨q3973, rfl⟩
theorem q3990 : (Jvm.Cond.fieldLink "java/lang/Enum" (7 : Nat) "java/lang/Enum" "ordinal" "I") ∈ lw_all := lw_g (lw_at lw_m17 43 rfl) rfl
abbrev ck_J9_init : CK := ("java/lang/Throwable", prog_55_method_1_code, 1, none, "<init>", [], 4)
def f_J9_init (γ : GP) (x0 : Nat) (g : AH) : Option (AH) := (if x0 ≠ 0 then pR γ g x0 51 x0 fun g1 => pR γ g1 x0 52 (γ.1 1) fun g2 => pR γ g2 x0 53 (γ.1 2) fun g3 => (okFill γ g3 x0 ((some g3))) else none)
theorem t_J9_init (γ : GP) (l : Launch) (hl : l.stackTraces = false) (x0 : Nat) (g : AH) : TrM ρV γ l ⟨"java/lang/Throwable", "<init>", "()V"⟩ (ws_ ⟨"java/lang/Throwable", "<init>", "()V"⟩ prog_55_method_1_code 1 none) 4 [.ref x0] g (f_J9_init γ x0 g) := by
  refine TrM_of (plainFor_of_name (by decide)) (Nat.le_of_ble_eq_true rfl) ?_
  unfold f_J9_init
  change AW ρV γ l ck_J9_init g 0 [(0, .ref x0)] [] g _
  refine r_aload_n (pc := 0) dJ9_init_0 rfl 0 rfl ?_
  refine r_objInit (pc := 1) dJ9_init_1 q431 q185 q186 (by decide) (Nat.le_of_ble_eq_true rfl) ?_
  refine r_aload_n (pc := 4) dJ9_init_4 rfl 0 rfl ?_
  refine r_aload_n (pc := 5) dJ9_init_5 rfl 0 rfl ?_
  refine r_putR (f := 51) (pc := 6) dJ9_init_6 q672 (Or.inl rfl) (Or.inl rfl) rfl (fun g1 => ?_)
  refine r_aload_n (pc := 9) dJ9_init_9 rfl 0 rfl ?_
  refine r_gets (i := 1) (pc := 10) dJ9_init_10 q432 (List.mem_of_getElem? (i := 1) rfl) rfl ?_
  refine r_putR (f := 52) (pc := 13) dJ9_init_13 q673 (Or.inl rfl) (Or.inl rfl) rfl (fun g2 => ?_)
  refine r_aload_n (pc := 16) dJ9_init_16 rfl 0 rfl ?_
  refine r_gets (i := 2) (pc := 17) dJ9_init_17 q434 (List.mem_of_getElem? (i := 2) rfl) rfl ?_
  refine r_putR (f := 53) (pc := 20) dJ9_init_20 q674 (Or.inl rfl) (Or.inl rfl) rfl (fun g3 => ?_)
  refine r_aload_n (pc := 23) dJ9_init_23 rfl 0 rfl ?_
  refine r_fill hl (pc := 24) dJ9_init_24 rfl (Nat.le_of_ble_eq_true rfl) (Nat.le_of_ble_eq_true rfl) ?_
  refine r_pop (pc := 27) dJ9_init_27 rfl ?_
  exact r_vret (pc := 28) dJ9_init_28 rfl
abbrev ck_J10_init_3 : CK := ("java/lang/Exception", prog_36_method_1_code, 1, none, "<init>", [], 5)
def f_J10_init_3 (γ : GP) (x0 : Nat) (g : AH) : Option (AH) := bV ((if x0 ≠ 0 then f_J9_init γ x0 g else none)) fun g1 => (some g1)
theorem t_J10_init_3 (γ : GP) (l : Launch) (hl : l.stackTraces = false) (x0 : Nat) (g : AH) : TrM ρV γ l ⟨"java/lang/Exception", "<init>", "()V"⟩ (ws_ ⟨"java/lang/Exception", "<init>", "()V"⟩ prog_36_method_1_code 1 none) 5 [.ref x0] g (f_J10_init_3 γ x0 g) := by
  refine TrM_of (plainFor_of_name (by decide)) (Nat.le_of_ble_eq_true rfl) ?_
  unfold f_J10_init_3
  change AW ρV γ l ck_J10_init_3 g 0 [(0, .ref x0)] [] g _
  refine r_aload_n (pc := 0) dJ10_init_3_0 rfl 0 rfl ?_
  refine r_cV (pc := 1) (rest := []) (RunOK_chk (fun h => run_I (n := 0) (As := []) (rest := []) (t_J9_init γ l hl x0 g) dJ10_init_3_1 q1012 q429 q122 q430 rfl (by decide +kernel) rfl h (Nat.le_of_ble_eq_true rfl) (Nat.le_of_ble_eq_true rfl) rfl (Nat.le_of_ble_eq_true rfl))) (fun g1 => ?_)
  exact r_vret (pc := 4) dJ10_init_3_4 rfl
abbrev ck_J11_init_3 : CK := ("java/lang/RuntimeException", prog_47_method_1_code, 1, none, "<init>", [], 6)
def f_J11_init_3 (γ : GP) (x0 : Nat) (g : AH) : Option (AH) := bV ((if x0 ≠ 0 then f_J10_init_3 γ x0 g else none)) fun g1 => (some g1)
theorem t_J11_init_3 (γ : GP) (l : Launch) (hl : l.stackTraces = false) (x0 : Nat) (g : AH) : TrM ρV γ l ⟨"java/lang/RuntimeException", "<init>", "()V"⟩ (ws_ ⟨"java/lang/RuntimeException", "<init>", "()V"⟩ prog_47_method_1_code 1 none) 6 [.ref x0] g (f_J11_init_3 γ x0 g) := by
  refine TrM_of (plainFor_of_name (by decide)) (Nat.le_of_ble_eq_true rfl) ?_
  unfold f_J11_init_3
  change AW ρV γ l ck_J11_init_3 g 0 [(0, .ref x0)] [] g _
  refine r_aload_n (pc := 0) dJ11_init_3_0 rfl 0 rfl ?_
  refine r_cV (pc := 1) (rest := []) (RunOK_chk (fun h => run_I (n := 0) (As := []) (rest := []) (t_J10_init_3 γ l hl x0 g) dJ11_init_3_1 q1009 q1010 q123 q1011 rfl (by decide +kernel) rfl h (Nat.le_of_ble_eq_true rfl) (Nat.le_of_ble_eq_true rfl) rfl (Nat.le_of_ble_eq_true rfl))) (fun g1 => ?_)
  exact r_vret (pc := 4) dJ11_init_3_4 rfl
abbrev ck_J12_init_2 : CK := ("java/lang/IllegalArgumentException", prog_37_method_1_code, 1, none, "<init>", [], 7)
def f_J12_init_2 (γ : GP) (x0 : Nat) (g : AH) : Option (AH) := bV ((if x0 ≠ 0 then f_J11_init_3 γ x0 g else none)) fun g1 => (some g1)
theorem t_J12_init_2 (γ : GP) (l : Launch) (hl : l.stackTraces = false) (x0 : Nat) (g : AH) : TrM ρV γ l ⟨"java/lang/IllegalArgumentException", "<init>", "()V"⟩ (ws_ ⟨"java/lang/IllegalArgumentException", "<init>", "()V"⟩ prog_37_method_1_code 1 none) 7 [.ref x0] g (f_J12_init_2 γ x0 g) := by
  refine TrM_of (plainFor_of_name (by decide)) (Nat.le_of_ble_eq_true rfl) ?_
  unfold f_J12_init_2
  change AW ρV γ l ck_J12_init_2 g 0 [(0, .ref x0)] [] g _
  refine r_aload_n (pc := 0) dJ12_init_2_0 rfl 0 rfl ?_
  refine r_cV (pc := 1) (rest := []) (RunOK_chk (fun h => run_I (n := 0) (As := []) (rest := []) (t_J11_init_3 γ l hl x0 g) dJ12_init_2_1 q1218 q1007 q124 q1008 rfl (by decide +kernel) rfl h (Nat.le_of_ble_eq_true rfl) (Nat.le_of_ble_eq_true rfl) rfl (Nat.le_of_ble_eq_true rfl))) (fun g1 => ?_)
  exact r_vret (pc := 4) dJ12_init_2_4 rfl
abbrev ck_J0_init : CK := ("java/util/AbstractCollection", prog_59_method_1_code, 1, none, "<init>", [], 2)
def f_J0_init (γ : GP) (x0 : Nat) (g : AH) : Option (AH) := (if x0 ≠ 0 then (some g) else none)
theorem t_J0_init (γ : GP) (l : Launch) (hl : l.stackTraces = false) (x0 : Nat) (g : AH) : TrM ρV γ l ⟨"java/util/AbstractCollection", "<init>", "()V"⟩ (ws_ ⟨"java/util/AbstractCollection", "<init>", "()V"⟩ prog_59_method_1_code 1 none) 2 [.ref x0] g (f_J0_init γ x0 g) := by
  refine TrM_of (plainFor_of_name (by decide)) (Nat.le_of_ble_eq_true rfl) ?_
  unfold f_J0_init
  change AW ρV γ l ck_J0_init g 0 [(0, .ref x0)] [] g _
  refine r_aload_n (pc := 0) dJ0_init_0 rfl 0 rfl ?_
  refine r_objInit (pc := 1) dJ0_init_1 q204 q185 q186 (by decide) (Nat.le_of_ble_eq_true rfl) ?_
  exact r_vret (pc := 4) dJ0_init_4 rfl
abbrev ck_J1_init : CK := ("java/util/AbstractList", prog_60_method_1_code, 1, none, "<init>", [], 3)
def f_J1_init (γ : GP) (x0 : Nat) (g : AH) : Option (AH) := bV ((if x0 ≠ 0 then f_J0_init γ x0 g else none)) fun g1 => pI γ g1 x0 14 (0 : Int32) fun g2 => (some g2)
theorem t_J1_init (γ : GP) (l : Launch) (hl : l.stackTraces = false) (x0 : Nat) (g : AH) : TrM ρV γ l ⟨"java/util/AbstractList", "<init>", "()V"⟩ (ws_ ⟨"java/util/AbstractList", "<init>", "()V"⟩ prog_60_method_1_code 1 none) 3 [.ref x0] g (f_J1_init γ x0 g) := by
  refine TrM_of (plainFor_of_name (by decide)) (Nat.le_of_ble_eq_true rfl) ?_
  unfold f_J1_init
  change AW ρV γ l ck_J1_init g 0 [(0, .ref x0)] [] g _
  refine r_aload_n (pc := 0) dJ1_init_0 rfl 0 rfl ?_
  refine r_cV (pc := 1) (rest := []) (RunOK_chk (fun h => run_I (n := 0) (As := []) (rest := []) (t_J0_init γ l hl x0 g) dJ1_init_1 q201 q202 q110 q203 rfl (by decide +kernel) rfl h (Nat.le_of_ble_eq_true rfl) (Nat.le_of_ble_eq_true rfl) rfl (Nat.le_of_ble_eq_true rfl))) (fun g1 => ?_)
  refine r_aload_n (pc := 4) dJ1_init_4 rfl 0 rfl ?_
  refine r_iconst (v := (0 : Int32)) (pc := 5) dJ1_init_5 (by decide) ?_
  refine r_putI (f := 14) (pc := 6) dJ1_init_6 q211 (Or.inl rfl) (Or.inl rfl) rfl (fun g2 => ?_)
  exact r_vret (pc := 9) dJ1_init_9 rfl
abbrev ck_J2_init : CK := ("java/util/ArrayList", prog_66_method_2_code, 1, none, "<init>", [], 4)
def f_J2_init (γ : GP) (x0 : Nat) (g : AH) : Option (AH) := bV ((if x0 ≠ 0 then f_J1_init γ x0 g else none)) fun g1 => pR γ g1 x0 15 (γ.1 0) fun g2 => (some g2)
theorem t_J2_init (γ : GP) (l : Launch) (hl : l.stackTraces = false) (x0 : Nat) (g : AH) : TrM ρV γ l ⟨"java/util/ArrayList", "<init>", "()V"⟩ (ws_ ⟨"java/util/ArrayList", "<init>", "()V"⟩ prog_66_method_2_code 1 none) 4 [.ref x0] g (f_J2_init γ x0 g) := by
  refine TrM_of (plainFor_of_name (by decide)) (Nat.le_of_ble_eq_true rfl) ?_
  unfold f_J2_init
  change AW ρV γ l ck_J2_init g 0 [(0, .ref x0)] [] g _
  refine r_aload_n (pc := 0) dJ2_init_0 rfl 0 rfl ?_
  refine r_cV (pc := 1) (rest := []) (RunOK_chk (fun h => run_I (n := 0) (As := []) (rest := []) (t_J1_init γ l hl x0 g) dJ2_init_1 q198 q199 q111 q200 rfl (by decide +kernel) rfl h (Nat.le_of_ble_eq_true rfl) (Nat.le_of_ble_eq_true rfl) rfl (Nat.le_of_ble_eq_true rfl))) (fun g1 => ?_)
  refine r_aload_n (pc := 4) dJ2_init_4 rfl 0 rfl ?_
  refine r_gets (i := 0) (pc := 5) dJ2_init_5 q205 (List.mem_of_getElem? (i := 0) rfl) rfl ?_
  refine r_putR (f := 15) (pc := 8) dJ2_init_8 q207 (Or.inl rfl) (Or.inl rfl) rfl (fun g2 => ?_)
  exact r_vret (pc := 11) dJ2_init_11 rfl
abbrev ck_J3_init : CK := ("java/util/AbstractSequentialList", prog_64_method_1_code, 1, none, "<init>", [], 4)
def f_J3_init (γ : GP) (x0 : Nat) (g : AH) : Option (AH) := bV ((if x0 ≠ 0 then f_J1_init γ x0 g else none)) fun g1 => (some g1)
theorem t_J3_init (γ : GP) (l : Launch) (hl : l.stackTraces = false) (x0 : Nat) (g : AH) : TrM ρV γ l ⟨"java/util/AbstractSequentialList", "<init>", "()V"⟩ (ws_ ⟨"java/util/AbstractSequentialList", "<init>", "()V"⟩ prog_64_method_1_code 1 none) 4 [.ref x0] g (f_J3_init γ x0 g) := by
  refine TrM_of (plainFor_of_name (by decide)) (Nat.le_of_ble_eq_true rfl) ?_
  unfold f_J3_init
  change AW ρV γ l ck_J3_init g 0 [(0, .ref x0)] [] g _
  refine r_aload_n (pc := 0) dJ3_init_0 rfl 0 rfl ?_
  refine r_cV (pc := 1) (rest := []) (RunOK_chk (fun h => run_I (n := 0) (As := []) (rest := []) (t_J1_init γ l hl x0 g) dJ3_init_1 q252 q199 q111 q200 rfl (by decide +kernel) rfl h (Nat.le_of_ble_eq_true rfl) (Nat.le_of_ble_eq_true rfl) rfl (Nat.le_of_ble_eq_true rfl))) (fun g1 => ?_)
  exact r_vret (pc := 4) dJ3_init_4 rfl
abbrev ck_J4_init : CK := ("java/util/LinkedList", prog_74_method_1_code, 1, none, "<init>", [], 5)
def f_J4_init (γ : GP) (x0 : Nat) (g : AH) : Option (AH) := bV ((if x0 ≠ 0 then f_J3_init γ x0 g else none)) fun g1 => pI γ g1 x0 19 (0 : Int32) fun g2 => (some g2)
theorem t_J4_init (γ : GP) (l : Launch) (hl : l.stackTraces = false) (x0 : Nat) (g : AH) : TrM ρV γ l ⟨"java/util/LinkedList", "<init>", "()V"⟩ (ws_ ⟨"java/util/LinkedList", "<init>", "()V"⟩ prog_74_method_1_code 1 none) 5 [.ref x0] g (f_J4_init γ x0 g) := by
  refine TrM_of (plainFor_of_name (by decide)) (Nat.le_of_ble_eq_true rfl) ?_
  unfold f_J4_init
  change AW ρV γ l ck_J4_init g 0 [(0, .ref x0)] [] g _
  refine r_aload_n (pc := 0) dJ4_init_0 rfl 0 rfl ?_
  refine r_cV (pc := 1) (rest := []) (RunOK_chk (fun h => run_I (n := 0) (As := []) (rest := []) (t_J3_init γ l hl x0 g) dJ4_init_1 q249 q250 q115 q251 rfl (by decide +kernel) rfl h (Nat.le_of_ble_eq_true rfl) (Nat.le_of_ble_eq_true rfl) rfl (Nat.le_of_ble_eq_true rfl))) (fun g1 => ?_)
  refine r_aload_n (pc := 4) dJ4_init_4 rfl 0 rfl ?_
  refine r_iconst (v := (0 : Int32)) (pc := 5) dJ4_init_5 (by decide) ?_
  refine r_putI (f := 19) (pc := 6) dJ4_init_6 q253 (Or.inl rfl) (Or.inl rfl) rfl (fun g2 => ?_)
  exact r_vret (pc := 9) dJ4_init_9 rfl
abbrev ck_J13_init : CK := ("java/util/ArrayList$Itr", prog_67_method_1_code, 2, none, "<init>", [], 2)
def f_J13_init (γ : GP) (x0 : Nat) (x1 : Nat) (g : AH) : Option (AH) := pR γ g x0 60 x1 fun g1 => (if x0 ≠ 0 then pI γ g1 x0 58 (-1 : Int32) fun g2 => gR g2 x0 60 fun v3 => gI g2 v3 14 fun v4 => pI γ g2 x0 59 v4 fun g5 => (some g5) else none)
theorem t_J13_init (γ : GP) (l : Launch) (hl : l.stackTraces = false) (x0 : Nat) (x1 : Nat) (g : AH) : TrM ρV γ l ⟨"java/util/ArrayList$Itr", "<init>", "(Ljava/util/ArrayList;)V"⟩ (ws_ ⟨"java/util/ArrayList$Itr", "<init>", "(Ljava/util/ArrayList;)V"⟩ prog_67_method_1_code 2 none) 2 [.ref x0, .ref x1] g (f_J13_init γ x0 x1 g) := by
  refine TrM_of (plainFor_of_name (by decide)) (Nat.le_of_ble_eq_true rfl) ?_
  unfold f_J13_init
  change AW ρV γ l ck_J13_init g 0 [(0, .ref x0), (1, .ref x1)] [] g _
  refine r_aload_n (pc := 0) dJ13_init_0 rfl 0 rfl ?_
  refine r_aload_n (pc := 1) dJ13_init_1 rfl 1 rfl ?_
  refine r_putR (f := 60) (pc := 2) dJ13_init_2 q374 (Or.inl rfl) (Or.inr ⟨rfl, rfl⟩) rfl (fun g1 => ?_)
  refine r_aload_n (pc := 5) dJ13_init_5 rfl 0 rfl ?_
  refine r_objInit (pc := 6) dJ13_init_6 q368 q185 q186 (by decide) (Nat.le_of_ble_eq_true rfl) ?_
  refine r_aload_n (pc := 9) dJ13_init_9 rfl 0 rfl ?_
  refine r_iconst (v := (-1 : Int32)) (pc := 10) dJ13_init_10 (by decide) ?_
  refine r_putI (f := 58) (pc := 11) dJ13_init_11 q372 (Or.inl rfl) (Or.inl rfl) rfl (fun g2 => ?_)
  refine r_aload_n (pc := 14) dJ13_init_14 rfl 0 rfl ?_
  refine r_aload_n (pc := 15) dJ13_init_15 rfl 0 rfl ?_
  refine r_getR (f := 60) (pc := 16) dJ13_init_16 q374 (Or.inl rfl) rfl (fun v3 => ?_)
  refine r_getI (f := 14) (pc := 19) dJ13_init_19 q214 (Or.inr q215) rfl (fun v4 => ?_)
  refine r_putI (f := 59) (pc := 22) dJ13_init_22 q373 (Or.inl rfl) (Or.inl rfl) rfl (fun g5 => ?_)
  exact r_vret (pc := 25) dJ13_init_25 rfl
abbrev ck_J2_iterator : CK := ("java/util/ArrayList", prog_66_method_55_code, 1, (some (.object "java/util/Iterator")), "iterator", [], 3)
def f_J2_iterator (γ : GP) (x0 : Nat) (g : AH) : Option (Nat × AH) := mO g 10 fun q1 g2 => bV ((if q1 ≠ 0 then f_J13_init γ q1 x0 g2 else none)) fun g3 => (some (q1, g3))
theorem t_J2_iterator (γ : GP) (l : Launch) (hl : l.stackTraces = false) (x0 : Nat) (g : AH) : TrM ρR γ l ⟨"java/util/ArrayList", "iterator", "()Ljava/util/Iterator;"⟩ (ws_ ⟨"java/util/ArrayList", "iterator", "()Ljava/util/Iterator;"⟩ prog_66_method_55_code 1 (some (.object "java/util/Iterator"))) 3 [.ref x0] g (f_J2_iterator γ x0 g) := by
  refine TrM_of (plainFor_of_name (by decide)) (Nat.le_of_ble_eq_true rfl) ?_
  unfold f_J2_iterator
  change AW ρR γ l ck_J2_iterator g 0 [(0, .ref x0)] [] g _
  refine r_new (c := 10) (pc := 0) dJ2_iterator_0 q363 (by decide) (by decide) (fun q1 g2 => ?_)
  refine r_dup (pc := 3) dJ2_iterator_3 rfl ?_
  refine r_aload_n (pc := 4) dJ2_iterator_4 rfl 0 rfl ?_
  refine r_cV (pc := 5) (rest := [.ref q1]) (RunOK_chk (fun h => run_I (n := 1) (As := [.ref x0]) (rest := [.ref q1]) (t_J13_init γ l hl q1 x0 g2) dJ2_iterator_5 q365 q366 q126 q367 rfl (by decide +kernel) rfl h (Nat.le_of_ble_eq_true rfl) (Nat.le_of_ble_eq_true rfl) rfl (Nat.le_of_ble_eq_true rfl))) (fun g3 => ?_)
  exact r_aret (pc := 8) dJ2_iterator_8 rfl (by first | exact Or.inl ⟨_, rfl⟩ | exact Or.inr ⟨_, rfl⟩)
abbrev ck_J13_hasNext : CK := ("java/util/ArrayList$Itr", prog_67_method_2_code, 1, (some .boolean), "hasNext", [], 1)
def f_J13_hasNext (γ : GP) (x0 : Nat) (g : AH) : Option (Int32 × AH) := gI g x0 57 fun v1 => gR g x0 60 fun v2 => gI g v2 16 fun v3 => (if v1 = v3 then (rtN .boolean (0 : Int32) g) else (rtN .boolean (1 : Int32) g))
theorem t_J13_hasNext (γ : GP) (l : Launch) (hl : l.stackTraces = false) (x0 : Nat) (g : AH) : TrM ρI γ l ⟨"java/util/ArrayList$Itr", "hasNext", "()Z"⟩ (ws_ ⟨"java/util/ArrayList$Itr", "hasNext", "()Z"⟩ prog_67_method_2_code 1 (some .boolean)) 1 [.ref x0] g (f_J13_hasNext γ x0 g) := by
  refine TrM_of (plainFor_of_name (by decide)) (Nat.le_of_ble_eq_true rfl) ?_
  unfold f_J13_hasNext
  change AW ρI γ l ck_J13_hasNext g 0 [(0, .ref x0)] [] g _
  refine r_aload_n (pc := 0) dJ13_hasNext_0 rfl 0 rfl ?_
  refine r_getI (f := 57) (pc := 1) dJ13_hasNext_1 q371 (Or.inl rfl) rfl (fun v1 => ?_)
  refine r_aload_n (pc := 4) dJ13_hasNext_4 rfl 0 rfl ?_
  refine r_getR (f := 60) (pc := 5) dJ13_hasNext_5 q374 (Or.inl rfl) rfl (fun v2 => ?_)
  refine r_getIN (f := 16) (pc := 8) dJ13_hasNext_8 mv209 rfl (fun v3 => ?_)
  refine r_icmp_eq (tgt := 18) (pc := 11) dJ13_hasNext_11 (by decide) ?_ ?_
  · skip
    refine r_iconst (v := (0 : Int32)) (pc := 18) dJ13_hasNext_18 (by decide) ?_
    exact r_zret (ty := .boolean) (pc := 19) dJ13_hasNext_19 rfl
  · skip
    refine r_iconst (v := (1 : Int32)) (pc := 14) dJ13_hasNext_14 (by decide) ?_
    refine r_goto (tgt := 19) (pc := 15) dJ13_hasNext_15 (by decide) ?_
    exact r_zret (ty := .boolean) (pc := 19) dJ13_hasNext_19 rfl
abbrev ck_J24_hasNext : CK := ("java/util/LinkedList$ListItr", prog_75_method_2_code, 1, (some .boolean), "hasNext", [], 1)
def f_J24_hasNext (γ : GP) (x0 : Nat) (g : AH) : Option (Int32 × AH) := gI g x0 64 fun v1 => gR g x0 66 fun v2 => gI g v2 19 fun v3 => (if v3 ≤ v1 then (rtN .boolean (0 : Int32) g) else (rtN .boolean (1 : Int32) g))
theorem t_J24_hasNext (γ : GP) (l : Launch) (hl : l.stackTraces = false) (x0 : Nat) (g : AH) : TrM ρI γ l ⟨"java/util/LinkedList$ListItr", "hasNext", "()Z"⟩ (ws_ ⟨"java/util/LinkedList$ListItr", "hasNext", "()Z"⟩ prog_75_method_2_code 1 (some .boolean)) 1 [.ref x0] g (f_J24_hasNext γ x0 g) := by
  refine TrM_of (plainFor_of_name (by decide)) (Nat.le_of_ble_eq_true rfl) ?_
  unfold f_J24_hasNext
  change AW ρI γ l ck_J24_hasNext g 0 [(0, .ref x0)] [] g _
  refine r_aload_n (pc := 0) dJ24_hasNext_0 rfl 0 rfl ?_
  refine r_getI (f := 64) (pc := 1) dJ24_hasNext_1 q765 (Or.inl rfl) rfl (fun v1 => ?_)
  refine r_aload_n (pc := 4) dJ24_hasNext_4 rfl 0 rfl ?_
  refine r_getR (f := 66) (pc := 5) dJ24_hasNext_5 q767 (Or.inl rfl) rfl (fun v2 => ?_)
  refine r_getI (f := 19) (pc := 8) dJ24_hasNext_8 q254 (Or.inl rfl) rfl (fun v3 => ?_)
  refine r_icmp_ge (tgt := 18) (pc := 11) dJ24_hasNext_11 (by decide) ?_ ?_
  · skip
    refine r_iconst (v := (0 : Int32)) (pc := 18) dJ24_hasNext_18 (by decide) ?_
    exact r_zret (ty := .boolean) (pc := 19) dJ24_hasNext_19 rfl
  · skip
    refine r_iconst (v := (1 : Int32)) (pc := 14) dJ24_hasNext_14 (by decide) ?_
    refine r_goto (tgt := 19) (pc := 15) dJ24_hasNext_15 (by decide) ?_
    exact r_zret (ty := .boolean) (pc := 19) dJ24_hasNext_19 rfl
abbrev ck_J29_hasNext : CK := ("java/util/TreeMap$PrivateEntryIterator", prog_100_method_2_code, 1, (some .boolean), "hasNext", [], 1)
def f_J29_hasNext (γ : GP) (x0 : Nat) (g : AH) : Option (Int32 × AH) := gR g x0 80 fun v1 => (if v1 = 0 then (rtN .boolean (0 : Int32) g) else (rtN .boolean (1 : Int32) g))
theorem t_J29_hasNext (γ : GP) (l : Launch) (hl : l.stackTraces = false) (x0 : Nat) (g : AH) : TrM ρI γ l ⟨"java/util/TreeMap$PrivateEntryIterator", "hasNext", "()Z"⟩ (ws_ ⟨"java/util/TreeMap$PrivateEntryIterator", "hasNext", "()Z"⟩ prog_100_method_2_code 1 (some .boolean)) 1 [.ref x0] g (f_J29_hasNext γ x0 g) := by
  refine TrM_of (plainFor_of_name (by decide)) (Nat.le_of_ble_eq_true rfl) ?_
  unfold f_J29_hasNext
  change AW ρI γ l ck_J29_hasNext g 0 [(0, .ref x0)] [] g _
  refine r_aload_n (pc := 0) dJ29_hasNext_0 rfl 0 rfl ?_
  refine r_getR (f := 80) (pc := 1) dJ29_hasNext_1 q1115 (Or.inl rfl) rfl (fun v1 => ?_)
  refine r_ifnull (tgt := 11) (pc := 4) dJ29_hasNext_4 (by decide) ?_ ?_
  · skip
    refine r_iconst (v := (0 : Int32)) (pc := 11) dJ29_hasNext_11 (by decide) ?_
    exact r_zret (ty := .boolean) (pc := 12) dJ29_hasNext_12 rfl
  · skip
    refine r_iconst (v := (1 : Int32)) (pc := 7) dJ29_hasNext_7 (by decide) ?_
    refine r_goto (tgt := 12) (pc := 8) dJ29_hasNext_8 (by decide) ?_
    exact r_zret (ty := .boolean) (pc := 12) dJ29_hasNext_12 rfl
abbrev ck_J13_checkForComodification : CK := ("java/util/ArrayList$Itr", prog_67_method_6_code, 1, none, "checkForComodification", [], 1)
def f_J13_checkForComodification (γ : GP) (x0 : Nat) (g : AH) : Option (AH) := gR g x0 60 fun v1 => gI g v1 14 fun v2 => gI g x0 59 fun v3 => (if v2 = v3 then (some g) else none)
theorem t_J13_checkForComodification (γ : GP) (l : Launch) (hl : l.stackTraces = false) (x0 : Nat) (g : AH) : TrM ρV γ l ⟨"java/util/ArrayList$Itr", "checkForComodification", "()V"⟩ (ws_ ⟨"java/util/ArrayList$Itr", "checkForComodification", "()V"⟩ prog_67_method_6_code 1 none) 1 [.ref x0] g (f_J13_checkForComodification γ x0 g) := by
  refine TrM_of (plainFor_of_name (by decide)) (Nat.le_of_ble_eq_true rfl) ?_
  unfold f_J13_checkForComodification
  change AW ρV γ l ck_J13_checkForComodification g 0 [(0, .ref x0)] [] g _
  refine r_aload_n (pc := 0) dJ13_checkForComodification_0 rfl 0 rfl ?_
  refine r_getR (f := 60) (pc := 1) dJ13_checkForComodification_1 q374 (Or.inl rfl) rfl (fun v1 => ?_)
  refine r_getI (f := 14) (pc := 4) dJ13_checkForComodification_4 q214 (Or.inr q215) rfl (fun v2 => ?_)
  refine r_aload_n (pc := 7) dJ13_checkForComodification_7 rfl 0 rfl ?_
  refine r_getI (f := 59) (pc := 8) dJ13_checkForComodification_8 q373 (Or.inl rfl) rfl (fun v3 => ?_)
  refine r_icmp_eq (tgt := 22) (pc := 11) dJ13_checkForComodification_11 (by decide) ?_ ?_
  · skip
    exact r_vret (pc := 22) dJ13_checkForComodification_22 rfl
  · skip
    exact AW_none
abbrev ck_J13_next : CK := ("java/util/ArrayList$Itr", prog_67_method_3_code, 3, (some (.object "java/lang/Object")), "next", [], 2)
def f_J13_next (γ : GP) (x0 : Nat) (g : AH) : Option (Nat × AH) := bV ((if hK g x0 = 10 then f_J13_checkForComodification γ x0 g else none)) fun g1 => gI g1 x0 57 fun v2 => gR g1 x0 60 fun v3 => gI g1 v3 16 fun v4 => (if v2 < v4 then gR g1 x0 60 fun v5 => gR g1 v5 15 fun v6 => gL g1 v6 fun v7 => (if v2 < v7 then pI γ g1 x0 57 (v2 + (1 : Int32)) fun g8 => pI γ g8 x0 58 v2 fun g9 => gQ g9 106 v6 v2 fun v10 => (some (v10, g9)) else none) else none)
theorem t_J13_next (γ : GP) (l : Launch) (hl : l.stackTraces = false) (x0 : Nat) (g : AH) : TrM ρR γ l ⟨"java/util/ArrayList$Itr", "next", "()Ljava/lang/Object;"⟩ (ws_ ⟨"java/util/ArrayList$Itr", "next", "()Ljava/lang/Object;"⟩ prog_67_method_3_code 3 (some (.object "java/lang/Object"))) 2 [.ref x0] g (f_J13_next γ x0 g) := by
  refine TrM_of (plainFor_of_name (by decide)) (Nat.le_of_ble_eq_true rfl) ?_
  unfold f_J13_next
  change AW ρR γ l ck_J13_next g 0 [(0, .ref x0)] [] g _
  refine r_aload_n (pc := 0) dJ13_next_0 rfl 0 rfl ?_
  refine r_cV (pc := 1) (rest := []) (RunOK_chk (fun h => run_V (n := 0) (c9 := 10) (As := []) (rest := []) (t_J13_checkForComodification γ l hl x0 g) dJ13_next_1 q996 q997 q998 q126 q1001 (by decide +kernel) rfl h ⟨rfl, by decide, by decide⟩ (Nat.le_of_ble_eq_true rfl) (Nat.le_of_ble_eq_true rfl) rfl (Nat.le_of_ble_eq_true rfl))) (fun g1 => ?_)
  refine r_aload_n (pc := 4) dJ13_next_4 rfl 0 rfl ?_
  refine r_getI (f := 57) (pc := 5) dJ13_next_5 q371 (Or.inl rfl) rfl (fun v2 => ?_)
  refine r_istore_n (pc := 8) dJ13_next_8 rfl (Nat.le_of_ble_eq_true rfl) rfl ?_
  refine r_iload_n (pc := 9) dJ13_next_9 rfl 0 rfl ?_
  refine r_aload_n (pc := 10) dJ13_next_10 rfl 1 rfl ?_
  refine r_getR (f := 60) (pc := 11) dJ13_next_11 q374 (Or.inl rfl) rfl (fun v3 => ?_)
  refine r_getIN (f := 16) (pc := 14) dJ13_next_14 mv209 rfl (fun v4 => ?_)
  refine r_icmp_lt (tgt := 28) (pc := 17) dJ13_next_17 (by decide) ?_ ?_
  · skip
    refine r_aload_n (pc := 28) dJ13_next_28 rfl 1 rfl ?_
    refine r_getR (f := 60) (pc := 29) dJ13_next_29 q374 (Or.inl rfl) rfl (fun v5 => ?_)
    refine r_getR (f := 15) (pc := 32) dJ13_next_32 q208 (Or.inl rfl) rfl (fun v6 => ?_)
    refine r_astore_n (pc := 35) dJ13_next_35 rfl (Nat.le_of_ble_eq_true rfl) rfl ?_
    refine r_iload_n (pc := 36) dJ13_next_36 rfl 1 rfl ?_
    refine r_aload_n (pc := 37) dJ13_next_37 rfl 0 rfl ?_
    refine r_alen (pc := 38) dJ13_next_38 (fun v7 => ?_)
    refine r_icmp_lt (tgt := 50) (pc := 39) dJ13_next_39 (by decide) ?_ ?_
    · skip
      refine r_aload_n (pc := 50) dJ13_next_50 rfl 2 rfl ?_
      refine r_iload_n (pc := 51) dJ13_next_51 rfl 1 rfl ?_
      refine r_iconst (v := (1 : Int32)) (pc := 52) dJ13_next_52 (by decide) ?_
      refine r_iadd (pc := 53) dJ13_next_53 ?_
      refine r_putI (f := 57) (pc := 54) dJ13_next_54 q371 (Or.inl rfl) (Or.inl rfl) rfl (fun g8 => ?_)
      refine r_aload_n (pc := 57) dJ13_next_57 rfl 0 rfl ?_
      refine r_aload_n (pc := 58) dJ13_next_58 rfl 2 rfl ?_
      refine r_iload_n (pc := 59) dJ13_next_59 rfl 1 rfl ?_
      refine r_dup_x1 (pc := 60) dJ13_next_60 rfl rfl ?_
      refine r_putI (f := 58) (pc := 61) dJ13_next_61 q372 (Or.inl rfl) (Or.inl rfl) rfl (fun g9 => ?_)
      refine r_aald (pc := 64) dJ13_next_64 (fun v10 => ?_)
      exact r_aret (pc := 65) dJ13_next_65 rfl (by first | exact Or.inl ⟨_, rfl⟩ | exact Or.inr ⟨_, rfl⟩)
    · skip
      exact AW_none
  · skip
    exact AW_none
abbrev ck_J24_checkForComodification : CK := ("java/util/LinkedList$ListItr", prog_75_method_12_code, 1, none, "checkForComodification", [], 1)
def f_J24_checkForComodification (γ : GP) (x0 : Nat) (g : AH) : Option (AH) := gR g x0 66 fun v1 => gI g v1 14 fun v2 => gI g x0 65 fun v3 => (if v2 = v3 then (some g) else none)
theorem t_J24_checkForComodification (γ : GP) (l : Launch) (hl : l.stackTraces = false) (x0 : Nat) (g : AH) : TrM ρV γ l ⟨"java/util/LinkedList$ListItr", "checkForComodification", "()V"⟩ (ws_ ⟨"java/util/LinkedList$ListItr", "checkForComodification", "()V"⟩ prog_75_method_12_code 1 none) 1 [.ref x0] g (f_J24_checkForComodification γ x0 g) := by
  refine TrM_of (plainFor_of_name (by decide)) (Nat.le_of_ble_eq_true rfl) ?_
  unfold f_J24_checkForComodification
  change AW ρV γ l ck_J24_checkForComodification g 0 [(0, .ref x0)] [] g _
  refine r_aload_n (pc := 0) dJ24_checkForComodification_0 rfl 0 rfl ?_
  refine r_getR (f := 66) (pc := 1) dJ24_checkForComodification_1 q767 (Or.inl rfl) rfl (fun v1 => ?_)
  refine r_getI (f := 14) (pc := 4) dJ24_checkForComodification_4 q212 (Or.inr q213) rfl (fun v2 => ?_)
  refine r_aload_n (pc := 7) dJ24_checkForComodification_7 rfl 0 rfl ?_
  refine r_getI (f := 65) (pc := 8) dJ24_checkForComodification_8 q766 (Or.inl rfl) rfl (fun v3 => ?_)
  refine r_icmp_eq (tgt := 22) (pc := 11) dJ24_checkForComodification_11 (by decide) ?_ ?_
  · skip
    exact r_vret (pc := 22) dJ24_checkForComodification_22 rfl
  · skip
    exact AW_none
abbrev ck_J24_next : CK := ("java/util/LinkedList$ListItr", prog_75_method_3_code, 1, (some (.object "java/lang/Object")), "next", [], 2)
def f_J24_next (γ : GP) (x0 : Nat) (g : AH) : Option (Nat × AH) := bV ((if hK g x0 = 13 then f_J24_checkForComodification γ x0 g else none)) fun g1 => bI ((if hK g1 x0 = 13 then f_J24_hasNext γ x0 g1 else none)) fun v3 g2 => (if v3 = 0 then none else gR g2 x0 63 fun v4 => pR γ g2 x0 62 v4 fun g5 => gR g5 x0 63 fun v6 => gR g5 v6 85 fun v7 => pR γ g5 x0 63 v7 fun g8 => gI g8 x0 64 fun v9 => pI γ g8 x0 64 (v9 + (1 : Int32)) fun g10 => gR g10 x0 62 fun v11 => gR g10 v11 84 fun v12 => (some (v12, g10)))
theorem t_J24_next (γ : GP) (l : Launch) (hl : l.stackTraces = false) (x0 : Nat) (g : AH) : TrM ρR γ l ⟨"java/util/LinkedList$ListItr", "next", "()Ljava/lang/Object;"⟩ (ws_ ⟨"java/util/LinkedList$ListItr", "next", "()Ljava/lang/Object;"⟩ prog_75_method_3_code 1 (some (.object "java/lang/Object"))) 2 [.ref x0] g (f_J24_next γ x0 g) := by
  refine TrM_of (plainFor_of_name (by decide)) (Nat.le_of_ble_eq_true rfl) ?_
  unfold f_J24_next
  change AW ρR γ l ck_J24_next g 0 [(0, .ref x0)] [] g _
  refine r_aload_n (pc := 0) dJ24_next_0 rfl 0 rfl ?_
  refine r_cV (pc := 1) (rest := []) (RunOK_chk (fun h => run_V (n := 0) (c9 := 13) (As := []) (rest := []) (t_J24_checkForComodification γ l hl x0 g) dJ24_next_1 q1020 q1021 q1022 q139 q1023 (by decide +kernel) rfl h ⟨rfl, by decide, by decide⟩ (Nat.le_of_ble_eq_true rfl) (Nat.le_of_ble_eq_true rfl) rfl (Nat.le_of_ble_eq_true rfl))) (fun g1 => ?_)
  refine r_aload_n (pc := 4) dJ24_next_4 rfl 0 rfl ?_
  refine r_cI (pc := 5) (rest := []) (RunOK_chk (fun h => run_V (n := 0) (c9 := 13) (As := []) (rest := []) (t_J24_hasNext γ l hl x0 g1) dJ24_next_5 q1024 q811 q3890 q139 q813 (by decide +kernel) rfl h ⟨rfl, by decide, by decide⟩ (Nat.le_of_ble_eq_true rfl) (Nat.le_of_ble_eq_true rfl) rfl (Nat.le_of_ble_eq_true rfl))) (fun v3 g2 => ?_)
  refine r_if_ne (tgt := 19) (pc := 8) dJ24_next_8 (by decide) ?_ ?_
  · skip
    exact AW_none
  · skip
    refine r_aload_n (pc := 19) dJ24_next_19 rfl 0 rfl ?_
    refine r_aload_n (pc := 20) dJ24_next_20 rfl 0 rfl ?_
    refine r_getR (f := 63) (pc := 21) dJ24_next_21 q764 (Or.inl rfl) rfl (fun v4 => ?_)
    refine r_putR (f := 62) (pc := 24) dJ24_next_24 q763 (Or.inl rfl) (Or.inl rfl) rfl (fun g5 => ?_)
    refine r_aload_n (pc := 27) dJ24_next_27 rfl 0 rfl ?_
    refine r_aload_n (pc := 28) dJ24_next_28 rfl 0 rfl ?_
    refine r_getR (f := 63) (pc := 29) dJ24_next_29 q764 (Or.inl rfl) rfl (fun v6 => ?_)
    refine r_getR (f := 85) (pc := 32) dJ24_next_32 q1367 (Or.inl rfl) rfl (fun v7 => ?_)
    refine r_putR (f := 63) (pc := 35) dJ24_next_35 q764 (Or.inl rfl) (Or.inl rfl) rfl (fun g8 => ?_)
    refine r_aload_n (pc := 38) dJ24_next_38 rfl 0 rfl ?_
    refine r_dup (pc := 39) dJ24_next_39 rfl ?_
    refine r_getI (f := 64) (pc := 40) dJ24_next_40 q765 (Or.inl rfl) rfl (fun v9 => ?_)
    refine r_iconst (v := (1 : Int32)) (pc := 43) dJ24_next_43 (by decide) ?_
    refine r_iadd (pc := 44) dJ24_next_44 ?_
    refine r_putI (f := 64) (pc := 45) dJ24_next_45 q765 (Or.inl rfl) (Or.inl rfl) rfl (fun g10 => ?_)
    refine r_aload_n (pc := 48) dJ24_next_48 rfl 0 rfl ?_
    refine r_getR (f := 62) (pc := 49) dJ24_next_49 q763 (Or.inl rfl) rfl (fun v11 => ?_)
    refine r_getR (f := 84) (pc := 52) dJ24_next_52 q1364 (Or.inl rfl) rfl (fun v12 => ?_)
    exact r_aret (pc := 55) dJ24_next_55 rfl (by first | exact Or.inl ⟨_, rfl⟩ | exact Or.inr ⟨_, rfl⟩)
abbrev ck_J28_successor : CK := ("java/util/TreeMap", prog_93_method_74_code, 3, (some (.object "java/util/TreeMap$Entry")), "successor", [], 1)
def f_J28_successor_L42 (γ : GP) : Nat → Nat → Nat → AH → Option (Nat × AH)
  | 0, _, _, _ => none
  | n + 1, x1, x2, g => (if x1 = 0 then (some (x1, g)) else gR g x1 100 fun v3 => (if x2 = v3 then gR g x1 101 fun v4 => f_J28_successor_L42 γ n v4 x1 g else (some (x1, g))))
def f_J28_successor_L18 (γ : GP) : Nat → Nat → AH → Option (Nat × AH)
  | 0, _, _ => none
  | n + 1, x1, g => gR g x1 99 fun v6 => (if v6 = 0 then (some (x1, g)) else gR g x1 99 fun v7 => f_J28_successor_L18 γ n v7 g)
def f_J28_successor (γ : GP) (x0 : Nat) (g : AH) : Option (Nat × AH) := (if x0 = 0 then (some (0, g)) else gR g x0 100 fun v1 => (if v1 = 0 then gR g x0 101 fun v2 => f_J28_successor_L42 γ  FU v2 x0 g else gR g x0 100 fun v5 => f_J28_successor_L18 γ  FU v5 g))
theorem f_J28_successor_L42_w (γ : GP) (l : Launch) (hl : l.stackTraces = false) (G0 : AH) : ∀ (n : Nat) (x1 : Nat) (x2 : Nat) (g : AH), AW ρR γ l ck_J28_successor G0 42 [(1, .ref x1), (2, .ref x2)] [] g (f_J28_successor_L42 γ n x1 x2 g) := by
  intro n
  induction n with
  | zero => intro x1 x2 g; exact AW_none
  | succ n ih =>
    intro x1 x2 g
    unfold f_J28_successor_L42
    refine r_aload_n (pc := 42) dJ28_successor_42 rfl 0 rfl ?_
    refine r_ifnull (tgt := 64) (pc := 43) dJ28_successor_43 (by decide) ?_ ?_
    · skip
      refine r_aload_n (pc := 64) dJ28_successor_64 rfl 0 rfl ?_
      exact r_aret (pc := 65) dJ28_successor_65 rfl (by first | exact Or.inl ⟨_, rfl⟩ | exact Or.inr ⟨_, rfl⟩)
    · skip
      refine r_aload_n (pc := 46) dJ28_successor_46 rfl 1 rfl ?_
      refine r_aload_n (pc := 47) dJ28_successor_47 rfl 0 rfl ?_
      refine r_getR (f := 100) (pc := 48) dJ28_successor_48 q1830 (Or.inl rfl) rfl (fun v3 => ?_)
      refine r_acmp_ne (tgt := 64) (pc := 51) dJ28_successor_51 (by decide) ?_ ?_
      · skip
        refine r_aload_n (pc := 54) dJ28_successor_54 rfl 0 rfl ?_
        refine r_astore_n (pc := 55) dJ28_successor_55 rfl (Nat.le_of_ble_eq_true rfl) rfl ?_
        refine r_aload_n (pc := 56) dJ28_successor_56 rfl 1 rfl ?_
        refine r_getR (f := 101) (pc := 57) dJ28_successor_57 q1832 (Or.inl rfl) rfl (fun v4 => ?_)
        refine r_astore_n (pc := 60) dJ28_successor_60 rfl (Nat.le_of_ble_eq_true rfl) rfl ?_
        refine r_goto (tgt := 42) (pc := 61) dJ28_successor_61 (by decide) ?_
        exact ih v4 x1 g
      · skip
        refine r_aload_n (pc := 64) dJ28_successor_64 rfl 0 rfl ?_
        exact r_aret (pc := 65) dJ28_successor_65 rfl (by first | exact Or.inl ⟨_, rfl⟩ | exact Or.inr ⟨_, rfl⟩)
theorem f_J28_successor_L18_w (γ : GP) (l : Launch) (hl : l.stackTraces = false) (G0 : AH) : ∀ (n : Nat) (x1 : Nat) (g : AH), AW ρR γ l ck_J28_successor G0 18 [(1, .ref x1)] [] g (f_J28_successor_L18 γ n x1 g) := by
  intro n
  induction n with
  | zero => intro x1 g; exact AW_none
  | succ n ih =>
    intro x1 g
    unfold f_J28_successor_L18
    refine r_aload_n (pc := 18) dJ28_successor_18 rfl 0 rfl ?_
    refine r_getR (f := 99) (pc := 19) dJ28_successor_19 q1829 (Or.inl rfl) rfl (fun v6 => ?_)
    refine r_ifnull (tgt := 33) (pc := 22) dJ28_successor_22 (by decide) ?_ ?_
    · skip
      refine r_aload_n (pc := 33) dJ28_successor_33 rfl 0 rfl ?_
      exact r_aret (pc := 34) dJ28_successor_34 rfl (by first | exact Or.inl ⟨_, rfl⟩ | exact Or.inr ⟨_, rfl⟩)
    · skip
      refine r_aload_n (pc := 25) dJ28_successor_25 rfl 0 rfl ?_
      refine r_getR (f := 99) (pc := 26) dJ28_successor_26 q1829 (Or.inl rfl) rfl (fun v7 => ?_)
      refine r_astore_n (pc := 29) dJ28_successor_29 rfl (Nat.le_of_ble_eq_true rfl) rfl ?_
      refine r_goto (tgt := 18) (pc := 30) dJ28_successor_30 (by decide) ?_
      exact ih v7 g
theorem t_J28_successor (γ : GP) (l : Launch) (hl : l.stackTraces = false) (x0 : Nat) (g : AH) : TrM ρR γ l ⟨"java/util/TreeMap", "successor", "(Ljava/util/TreeMap$Entry;)Ljava/util/TreeMap$Entry;"⟩ (ws_ ⟨"java/util/TreeMap", "successor", "(Ljava/util/TreeMap$Entry;)Ljava/util/TreeMap$Entry;"⟩ prog_93_method_74_code 3 (some (.object "java/util/TreeMap$Entry"))) 1 [.ref x0] g (f_J28_successor γ x0 g) := by
  refine TrM_of (plainFor_of_name (by decide)) (Nat.le_of_ble_eq_true rfl) ?_
  unfold f_J28_successor
  change AW ρR γ l ck_J28_successor g 0 [(0, .ref x0)] [] g _
  refine r_aload_n (pc := 0) dJ28_successor_0 rfl 0 rfl ?_
  refine r_ifnonnull (tgt := 6) (pc := 1) dJ28_successor_1 (by decide) ?_ ?_
  · skip
    refine r_null (pc := 4) dJ28_successor_4 ?_
    exact r_aret (pc := 5) dJ28_successor_5 rfl (by first | exact Or.inl ⟨_, rfl⟩ | exact Or.inr ⟨_, rfl⟩)
  · skip
    refine r_aload_n (pc := 6) dJ28_successor_6 rfl 0 rfl ?_
    refine r_getR (f := 100) (pc := 7) dJ28_successor_7 q1830 (Or.inl rfl) rfl (fun v1 => ?_)
    refine r_ifnull (tgt := 35) (pc := 10) dJ28_successor_10 (by decide) ?_ ?_
    · skip
      refine r_aload_n (pc := 35) dJ28_successor_35 rfl 0 rfl ?_
      refine r_getR (f := 101) (pc := 36) dJ28_successor_36 q1832 (Or.inl rfl) rfl (fun v2 => ?_)
      refine r_astore_n (pc := 39) dJ28_successor_39 rfl (Nat.le_of_ble_eq_true rfl) rfl ?_
      refine r_aload_n (pc := 40) dJ28_successor_40 rfl 1 rfl ?_
      refine r_astore_n (pc := 41) dJ28_successor_41 rfl (Nat.le_of_ble_eq_true rfl) rfl ?_
      refine AW_sub [1, 0] rfl ?_
      refine f_J28_successor_L42_w γ l hl _  FU v2 x0 g
    · skip
      refine r_aload_n (pc := 13) dJ28_successor_13 rfl 0 rfl ?_
      refine r_getR (f := 100) (pc := 14) dJ28_successor_14 q1830 (Or.inl rfl) rfl (fun v5 => ?_)
      refine r_astore_n (pc := 17) dJ28_successor_17 rfl (Nat.le_of_ble_eq_true rfl) rfl ?_
      refine AW_sub [0] rfl ?_
      refine f_J28_successor_L18_w γ l hl _  FU v5 g
abbrev ck_J29_nextEntry : CK := ("java/util/TreeMap$PrivateEntryIterator", prog_100_method_3_code, 2, (some (.object "java/util/TreeMap$Entry")), "nextEntry", [], 2)
def f_J29_nextEntry (γ : GP) (x0 : Nat) (g : AH) : Option (Nat × AH) := gR g x0 80 fun v1 => (if v1 = 0 then none else gR g x0 83 fun v2 => gI g v2 72 fun v3 => gI g x0 82 fun v4 => (if v3 = v4 then bR (f_J28_successor γ v1 g) fun v6 g5 => pR γ g5 x0 80 v6 fun g7 => pR γ g7 x0 81 v1 fun g8 => (some (v1, g8)) else none))
theorem t_J29_nextEntry (γ : GP) (l : Launch) (hl : l.stackTraces = false) (x0 : Nat) (g : AH) : TrM ρR γ l ⟨"java/util/TreeMap$PrivateEntryIterator", "nextEntry", "()Ljava/util/TreeMap$Entry;"⟩ (ws_ ⟨"java/util/TreeMap$PrivateEntryIterator", "nextEntry", "()Ljava/util/TreeMap$Entry;"⟩ prog_100_method_3_code 2 (some (.object "java/util/TreeMap$Entry"))) 2 [.ref x0] g (f_J29_nextEntry γ x0 g) := by
  refine TrM_of (plainFor_of_name (by decide)) (Nat.le_of_ble_eq_true rfl) ?_
  unfold f_J29_nextEntry
  change AW ρR γ l ck_J29_nextEntry g 0 [(0, .ref x0)] [] g _
  refine r_aload_n (pc := 0) dJ29_nextEntry_0 rfl 0 rfl ?_
  refine r_getR (f := 80) (pc := 1) dJ29_nextEntry_1 q1115 (Or.inl rfl) rfl (fun v1 => ?_)
  refine r_astore_n (pc := 4) dJ29_nextEntry_4 rfl (Nat.le_of_ble_eq_true rfl) rfl ?_
  refine r_aload_n (pc := 5) dJ29_nextEntry_5 rfl 0 rfl ?_
  refine r_ifnonnull (tgt := 17) (pc := 6) dJ29_nextEntry_6 (by decide) ?_ ?_
  · skip
    exact AW_none
  · skip
    refine r_aload_n (pc := 17) dJ29_nextEntry_17 rfl 1 rfl ?_
    refine r_getR (f := 83) (pc := 18) dJ29_nextEntry_18 q1118 (Or.inl rfl) rfl (fun v2 => ?_)
    refine r_getIN (f := 72) (pc := 21) dJ29_nextEntry_21 mv1427 rfl (fun v3 => ?_)
    refine r_aload_n (pc := 24) dJ29_nextEntry_24 rfl 1 rfl ?_
    refine r_getI (f := 82) (pc := 25) dJ29_nextEntry_25 q1117 (Or.inl rfl) rfl (fun v4 => ?_)
    refine r_icmp_eq (tgt := 39) (pc := 28) dJ29_nextEntry_28 (by decide) ?_ ?_
    · skip
      refine r_aload_n (pc := 39) dJ29_nextEntry_39 rfl 1 rfl ?_
      refine r_aload_n (pc := 40) dJ29_nextEntry_40 rfl 0 rfl ?_
      refine r_cR (pc := 41) (rest := [.ref x0]) (run_S (n := 1) (As := [.ref v1]) (rest := [.ref x0]) (t_J28_successor γ l hl v1 g) dJ29_nextEntry_41 q1044 q1045 q143 q1046 (by decide +kernel) rfl (Nat.le_of_ble_eq_true rfl) (Nat.le_of_ble_eq_true rfl) rfl (Nat.le_of_ble_eq_true rfl)) (fun v6 g5 => ?_)
      refine r_putR (f := 80) (pc := 44) dJ29_nextEntry_44 q1115 (Or.inl rfl) (Or.inl rfl) rfl (fun g7 => ?_)
      refine r_aload_n (pc := 47) dJ29_nextEntry_47 rfl 1 rfl ?_
      refine r_aload_n (pc := 48) dJ29_nextEntry_48 rfl 0 rfl ?_
      refine r_putR (f := 81) (pc := 49) dJ29_nextEntry_49 q1116 (Or.inl rfl) (Or.inl rfl) rfl (fun g8 => ?_)
      refine r_aload_n (pc := 52) dJ29_nextEntry_52 rfl 0 rfl ?_
      exact r_aret (pc := 53) dJ29_nextEntry_53 rfl (by first | exact Or.inl ⟨_, rfl⟩ | exact Or.inr ⟨_, rfl⟩)
    · skip
      exact AW_none
abbrev ck_J31_next : CK := ("java/util/TreeMap$KeyIterator", prog_97_method_2_code, 1, (some (.object "java/lang/Object")), "next", [], 3)
def f_J31_next (γ : GP) (x0 : Nat) (g : AH) : Option (Nat × AH) := bR ((if hK g x0 = 17 then f_J29_nextEntry γ x0 g else none)) fun v2 g1 => gR g1 v2 97 fun v3 => (some (v3, g1))
theorem t_J31_next (γ : GP) (l : Launch) (hl : l.stackTraces = false) (x0 : Nat) (g : AH) : TrM ρR γ l ⟨"java/util/TreeMap$KeyIterator", "next", "()Ljava/lang/Object;"⟩ (ws_ ⟨"java/util/TreeMap$KeyIterator", "next", "()Ljava/lang/Object;"⟩ prog_97_method_2_code 1 (some (.object "java/lang/Object"))) 3 [.ref x0] g (f_J31_next γ x0 g) := by
  refine TrM_of (plainFor_of_name (by decide)) (Nat.le_of_ble_eq_true rfl) ?_
  unfold f_J31_next
  change AW ρR γ l ck_J31_next g 0 [(0, .ref x0)] [] g _
  refine r_aload_n (pc := 0) dJ31_next_0 rfl 0 rfl ?_
  refine r_cR (pc := 1) (rest := []) (RunOK_chk (fun h => run_U (n := 0) (c9 := 17) (As := []) (rest := []) (owner := "java/util/TreeMap$PrivateEntryIterator") (t_J29_nextEntry γ l hl x0 g) dJ31_next_1 q1052 q1053 q1054 q1040 q145 q1041 rfl ⟨by decide, by decide, by decide +kernel⟩ rfl h ⟨by decide, by decide⟩ (Nat.le_of_ble_eq_true rfl) (Nat.le_of_ble_eq_true rfl) rfl (Nat.le_of_ble_eq_true rfl))) (fun v2 g1 => ?_)
  refine r_getR (f := 97) (pc := 4) dJ31_next_4 q1824 (Or.inl rfl) rfl (fun v3 => ?_)
  exact r_aret (pc := 7) dJ31_next_7 rfl (by first | exact Or.inl ⟨_, rfl⟩ | exact Or.inr ⟨_, rfl⟩)
abbrev ck_J32_next : CK := ("java/util/TreeMap$ValueIterator", prog_101_method_2_code, 1, (some (.object "java/lang/Object")), "next", [], 3)
def f_J32_next (γ : GP) (x0 : Nat) (g : AH) : Option (Nat × AH) := bR ((if hK g x0 = 18 then f_J29_nextEntry γ x0 g else none)) fun v2 g1 => gR g1 v2 98 fun v3 => (some (v3, g1))
theorem t_J32_next (γ : GP) (l : Launch) (hl : l.stackTraces = false) (x0 : Nat) (g : AH) : TrM ρR γ l ⟨"java/util/TreeMap$ValueIterator", "next", "()Ljava/lang/Object;"⟩ (ws_ ⟨"java/util/TreeMap$ValueIterator", "next", "()Ljava/lang/Object;"⟩ prog_101_method_2_code 1 (some (.object "java/lang/Object"))) 3 [.ref x0] g (f_J32_next γ x0 g) := by
  refine TrM_of (plainFor_of_name (by decide)) (Nat.le_of_ble_eq_true rfl) ?_
  unfold f_J32_next
  change AW ρR γ l ck_J32_next g 0 [(0, .ref x0)] [] g _
  refine r_aload_n (pc := 0) dJ32_next_0 rfl 0 rfl ?_
  refine r_cR (pc := 1) (rest := []) (RunOK_chk (fun h => run_U (n := 0) (c9 := 18) (As := []) (rest := []) (owner := "java/util/TreeMap$PrivateEntryIterator") (t_J29_nextEntry γ l hl x0 g) dJ32_next_1 q1060 q1061 q1062 q1040 q145 q1041 rfl ⟨by decide, by decide, by decide +kernel⟩ rfl h ⟨by decide, by decide⟩ (Nat.le_of_ble_eq_true rfl) (Nat.le_of_ble_eq_true rfl) rfl (Nat.le_of_ble_eq_true rfl))) (fun v2 g1 => ?_)
  refine r_getR (f := 98) (pc := 4) dJ32_next_4 q1827 (Or.inl rfl) rfl (fun v3 => ?_)
  exact r_aret (pc := 7) dJ32_next_7 rfl (by first | exact Or.inl ⟨_, rfl⟩ | exact Or.inr ⟨_, rfl⟩)
abbrev ck_J16_min : CK := ("java/lang/Math", prog_44_method_69_code, 2, (some .int), "min", [], 1)
def f_J16_min (γ : GP) (x0 : Int32) (x1 : Int32) (g : AH) : Option (Int32 × AH) := (if x1 < x0 then (some (x1, g)) else (some (x0, g)))
theorem t_J16_min (γ : GP) (l : Launch) (hl : l.stackTraces = false) (x0 : Int32) (x1 : Int32) (g : AH) : TrM ρI γ l ⟨"java/lang/Math", "min", "(II)I"⟩ (ws_ ⟨"java/lang/Math", "min", "(II)I"⟩ prog_44_method_69_code 2 (some .int)) 1 [.int x0, .int x1] g (f_J16_min γ x0 x1 g) := by
  refine TrM_of (by decide +kernel) (Nat.le_of_ble_eq_true rfl) ?_
  unfold f_J16_min
  change AW ρI γ l ck_J16_min g 0 [(0, .int x0), (1, .int x1)] [] g _
  refine r_iload_n (pc := 0) dJ16_min_0 rfl 0 rfl ?_
  refine r_iload_n (pc := 1) dJ16_min_1 rfl 1 rfl ?_
  refine r_icmp_gt (tgt := 9) (pc := 2) dJ16_min_2 (by decide) ?_ ?_
  · skip
    refine r_iload_n (pc := 9) dJ16_min_9 rfl 1 rfl ?_
    exact r_iret (pc := 10) dJ16_min_10 rfl
  · skip
    refine r_iload_n (pc := 5) dJ16_min_5 rfl 0 rfl ?_
    refine r_goto (tgt := 10) (pc := 6) dJ16_min_6 (by decide) ?_
    exact r_iret (pc := 10) dJ16_min_10 rfl
abbrev ck_J17_copyOf_3 : CK := ("java/util/Arrays", prog_69_method_120_code, 4, (some (.array (.object "java/lang/Object"))), "copyOf", [], 2)
def f_J17_copyOf_3 (γ : GP) (x0 : Nat) (x1 : Int32) (x2 : Nat) (g : AH) : Option (Nat × AH) := (if x2 = (γ.1 48) then mA g 106 x1 fun q1 g2 => gL g2 x0 fun v3 => bI (f_J16_min γ v3 x1 g2) fun v5 g4 => nCQ γ g4 x0 (0 : Int32) q1 (0 : Int32) v5 fun g6 => (some (q1, g6)) else none)
theorem t_J17_copyOf_3 (γ : GP) (l : Launch) (hl : l.stackTraces = false) (x0 : Nat) (x1 : Int32) (x2 : Nat) (g : AH) : TrM ρR γ l ⟨"java/util/Arrays", "copyOf", "([Ljava/lang/Object;ILjava/lang/Class;)[Ljava/lang/Object;"⟩ (ws_ ⟨"java/util/Arrays", "copyOf", "([Ljava/lang/Object;ILjava/lang/Class;)[Ljava/lang/Object;"⟩ prog_69_method_120_code 4 (some (.array (.object "java/lang/Object")))) 2 [.ref x0, .int x1, .ref x2] g (f_J17_copyOf_3 γ x0 x1 x2 g) := by
  refine TrM_of (plainFor_of_name (by decide)) (Nat.le_of_ble_eq_true rfl) ?_
  unfold f_J17_copyOf_3
  change AW ρR γ l ck_J17_copyOf_3 g 0 [(0, .ref x0), (1, .int x1), (2, .ref x2)] [] g _
  refine r_aload_n (pc := 0) dJ17_copyOf_3_0 rfl 2 rfl ?_
  refine r_ldcM (pc := 1) dJ17_copyOf_3_1 q1283 (i := 48) (List.mem_of_getElem? (i := 0) rfl) ?_
  refine r_acmp_ne (tgt := 13) (pc := 3) dJ17_copyOf_3_3 (by decide) ?_ ?_
  · skip
    refine r_iload_n (pc := 6) dJ17_copyOf_3_6 rfl 1 rfl ?_
    refine r_anewa (pc := 7) dJ17_copyOf_3_7 q1285 mv1284 (fun q1 g2 => ?_)
    refine r_goto (tgt := 24) (pc := 10) dJ17_copyOf_3_10 (by decide) ?_
    refine r_astore_n (pc := 24) dJ17_copyOf_3_24 rfl (Nat.le_of_ble_eq_true rfl) rfl ?_
    refine r_aload_n (pc := 25) dJ17_copyOf_3_25 rfl 1 rfl ?_
    refine r_iconst (v := (0 : Int32)) (pc := 26) dJ17_copyOf_3_26 (by decide) ?_
    refine r_aload_n (pc := 27) dJ17_copyOf_3_27 rfl 0 rfl ?_
    refine r_iconst (v := (0 : Int32)) (pc := 28) dJ17_copyOf_3_28 (by decide) ?_
    refine r_aload_n (pc := 29) dJ17_copyOf_3_29 rfl 1 rfl ?_
    refine r_alen (pc := 30) dJ17_copyOf_3_30 (fun v3 => ?_)
    refine r_iload_n (pc := 31) dJ17_copyOf_3_31 rfl 2 rfl ?_
    refine r_cI (pc := 32) (rest := [.int (0 : Int32), .ref q1, .int (0 : Int32), .ref x0]) (run_S (n := 2) (As := [.int v3, .int x1]) (rest := [.int (0 : Int32), .ref q1, .int (0 : Int32), .ref x0]) (t_J16_min γ l hl v3 x1 g2) dJ17_copyOf_3_32 q501 q502 q129 q503 (by decide +kernel) rfl (Nat.le_of_ble_eq_true rfl) (Nat.le_of_ble_eq_true rfl) rfl (Nat.le_of_ble_eq_true rfl)) (fun v5 g4 => ?_)
    refine r_copyQ (pc := 35) dJ17_copyOf_3_35 q504 q506 q505 q131 (by decide) (Nat.le_of_ble_eq_true rfl) (fun g6 => ?_)
    refine r_aload_n (pc := 38) dJ17_copyOf_3_38 rfl 0 rfl ?_
    exact r_aret (pc := 39) dJ17_copyOf_3_39 rfl (by first | exact Or.inl ⟨_, rfl⟩ | exact Or.inr ⟨_, rfl⟩)
  · skip
    refine r_aload_n (pc := 13) dJ17_copyOf_3_13 rfl 2 rfl ?_
    exact AW_none
abbrev ck_J17_copyOf_2 : CK := ("java/util/Arrays", prog_69_method_119_code, 2, (some (.array (.object "java/lang/Object"))), "copyOf", [], 3)
def f_J17_copyOf_2 (γ : GP) (x0 : Nat) (x1 : Int32) (g : AH) : Option (Nat × AH) := (if hK g x0 = 106 then bR (f_J17_copyOf_3 γ x0 x1 (γ.1 48) g) fun v2 g1 => (some (v2, g1)) else none)
theorem t_J17_copyOf_2 (γ : GP) (l : Launch) (hl : l.stackTraces = false) (x0 : Nat) (x1 : Int32) (g : AH) : TrM ρR γ l ⟨"java/util/Arrays", "copyOf", "([Ljava/lang/Object;I)[Ljava/lang/Object;"⟩ (ws_ ⟨"java/util/Arrays", "copyOf", "([Ljava/lang/Object;I)[Ljava/lang/Object;"⟩ prog_69_method_119_code 2 (some (.array (.object "java/lang/Object")))) 3 [.ref x0, .int x1] g (f_J17_copyOf_2 γ x0 x1 g) := by
  refine TrM_of (plainFor_of_name (by decide)) (Nat.le_of_ble_eq_true rfl) ?_
  unfold f_J17_copyOf_2
  change AW ρR γ l ck_J17_copyOf_2 g 0 [(0, .ref x0), (1, .int x1)] [] g _
  refine r_aload_n (pc := 0) dJ17_copyOf_2_0 rfl 0 rfl ?_
  refine r_iload_n (pc := 1) dJ17_copyOf_2_1 rfl 1 rfl ?_
  refine r_aload_n (pc := 2) dJ17_copyOf_2_2 rfl 0 rfl ?_
  refine r_getC (i := 48) (K := fun (_ : Nat) => bR (f_J17_copyOf_3 γ x0 x1 (γ.1 48) g) fun v2 g1 => (some (v2, g1))) (pc := 3) dJ17_copyOf_2_3 q1279 mv3973 q3972 q904 q955 (List.mem_of_getElem? (i := 0) rfl) (by decide) (Nat.le_of_ble_eq_true rfl) ?_
  refine r_cR (pc := 6) (rest := []) (run_S (n := 3) (As := [.ref x0, .int x1, .ref (γ.1 48)]) (rest := []) (t_J17_copyOf_3 γ l hl x0 x1 (γ.1 48) g) dJ17_copyOf_2_6 q1280 q1281 q130 q1282 (by decide +kernel) rfl (Nat.le_of_ble_eq_true rfl) (Nat.le_of_ble_eq_true rfl) rfl (Nat.le_of_ble_eq_true rfl)) (fun v2 g1 => ?_)
  exact r_aret (pc := 9) dJ17_copyOf_2_9 rfl (by first | exact Or.inl ⟨_, rfl⟩ | exact Or.inr ⟨_, rfl⟩)
abbrev ck_J2_toArray : CK := ("java/util/ArrayList", prog_66_method_16_code, 1, (some (.array (.object "java/lang/Object"))), "toArray", [], 4)
def f_J2_toArray (γ : GP) (x0 : Nat) (g : AH) : Option (Nat × AH) := gR g x0 15 fun v1 => gI g x0 16 fun v2 => bR (f_J17_copyOf_2 γ v1 v2 g) fun v4 g3 => (some (v4, g3))
theorem t_J2_toArray (γ : GP) (l : Launch) (hl : l.stackTraces = false) (x0 : Nat) (g : AH) : TrM ρR γ l ⟨"java/util/ArrayList", "toArray", "()[Ljava/lang/Object;"⟩ (ws_ ⟨"java/util/ArrayList", "toArray", "()[Ljava/lang/Object;"⟩ prog_66_method_16_code 1 (some (.array (.object "java/lang/Object")))) 4 [.ref x0] g (f_J2_toArray γ x0 g) := by
  refine TrM_of (plainFor_of_name (by decide)) (Nat.le_of_ble_eq_true rfl) ?_
  unfold f_J2_toArray
  change AW ρR γ l ck_J2_toArray g 0 [(0, .ref x0)] [] g _
  refine r_aload_n (pc := 0) dJ2_toArray_0 rfl 0 rfl ?_
  refine r_getR (f := 15) (pc := 1) dJ2_toArray_1 q207 (Or.inl rfl) rfl (fun v1 => ?_)
  refine r_aload_n (pc := 4) dJ2_toArray_4 rfl 0 rfl ?_
  refine r_getI (f := 16) (pc := 5) dJ2_toArray_5 q210 (Or.inl rfl) rfl (fun v2 => ?_)
  refine r_cR (pc := 8) (rest := []) (run_S (n := 2) (As := [.ref v1, .int v2]) (rest := []) (t_J17_copyOf_2 γ l hl v1 v2 g) dJ2_toArray_8 q1276 q1277 q130 q1278 (by decide +kernel) rfl (Nat.le_of_ble_eq_true rfl) (Nat.le_of_ble_eq_true rfl) rfl (Nat.le_of_ble_eq_true rfl)) (fun v4 g3 => ?_)
  exact r_aret (pc := 11) dJ2_toArray_11 rfl (by first | exact Or.inl ⟨_, rfl⟩ | exact Or.inr ⟨_, rfl⟩)
abbrev ck_J4_toArray : CK := ("java/util/LinkedList", prog_74_method_53_code, 4, (some (.array (.object "java/lang/Object"))), "toArray", [], 1)
def f_J4_toArray_L15 (γ : GP) (x1 : Nat) : Nat → Int32 → Nat → AH → Option (Nat × AH)
  | 0, _, _, _ => none
  | n + 1, x2, x3, g => (if x3 = 0 then (some (x1, g)) else gR g x3 84 fun v5 => pQ γ g x1 x2 v5 fun g6 => gR g6 x3 85 fun v7 => f_J4_toArray_L15 γ x1 n (x2 + (1 : Int32)) v7 g6)
def f_J4_toArray (γ : GP) (x0 : Nat) (g : AH) : Option (Nat × AH) := gI g x0 19 fun v1 => mA g 106 v1 fun q2 g3 => gR g3 x0 20 fun v4 => f_J4_toArray_L15 γ q2 FU (0 : Int32) v4 g3
theorem f_J4_toArray_L15_w (γ : GP) (l : Launch) (hl : l.stackTraces = false) (G0 : AH) (x1 : Nat) : ∀ (n : Nat) (x2 : Int32) (x3 : Nat) (g : AH), AW ρR γ l ck_J4_toArray G0 15 [(1, .ref x1), (2, .int x2), (3, .ref x3)] [] g (f_J4_toArray_L15 γ x1 n x2 x3 g) := by
  intro n
  induction n with
  | zero => intro x2 x3 g; exact AW_none
  | succ n ih =>
    intro x2 x3 g
    unfold f_J4_toArray_L15
    refine r_aload_n (pc := 15) dJ4_toArray_15 rfl 2 rfl ?_
    refine r_ifnull (tgt := 37) (pc := 16) dJ4_toArray_16 (by decide) ?_ ?_
    · skip
      refine r_aload_n (pc := 37) dJ4_toArray_37 rfl 0 rfl ?_
      exact r_aret (pc := 38) dJ4_toArray_38 rfl (by first | exact Or.inl ⟨_, rfl⟩ | exact Or.inr ⟨_, rfl⟩)
    · skip
      refine r_aload_n (pc := 19) dJ4_toArray_19 rfl 0 rfl ?_
      refine r_iload_n (pc := 20) dJ4_toArray_20 rfl 1 rfl ?_
      refine r_iinc (j := 1) (v := (x2 + (1 : Int32))) (pc := 21) dJ4_toArray_21 rfl rfl (Nat.le_of_ble_eq_true rfl) rfl ?_
      refine r_aload_n (pc := 24) dJ4_toArray_24 rfl 2 rfl ?_
      refine r_getR (f := 84) (pc := 25) dJ4_toArray_25 q1365 (Or.inl rfl) rfl (fun v5 => ?_)
      refine r_aast (pc := 28) dJ4_toArray_28 (fun g6 => ?_)
      refine r_aload_n (pc := 29) dJ4_toArray_29 rfl 2 rfl ?_
      refine r_getR (f := 85) (pc := 30) dJ4_toArray_30 q1368 (Or.inl rfl) rfl (fun v7 => ?_)
      refine r_astore_n (pc := 33) dJ4_toArray_33 rfl (Nat.le_of_ble_eq_true rfl) rfl ?_
      refine r_goto (tgt := 15) (pc := 34) dJ4_toArray_34 (by decide) ?_
      refine AW_sub [2, 1, 0] rfl ?_
      exact ih (x2 + (1 : Int32)) v7 g6
theorem t_J4_toArray (γ : GP) (l : Launch) (hl : l.stackTraces = false) (x0 : Nat) (g : AH) : TrM ρR γ l ⟨"java/util/LinkedList", "toArray", "()[Ljava/lang/Object;"⟩ (ws_ ⟨"java/util/LinkedList", "toArray", "()[Ljava/lang/Object;"⟩ prog_74_method_53_code 4 (some (.array (.object "java/lang/Object")))) 1 [.ref x0] g (f_J4_toArray γ x0 g) := by
  refine TrM_of (plainFor_of_name (by decide)) (Nat.le_of_ble_eq_true rfl) ?_
  unfold f_J4_toArray
  change AW ρR γ l ck_J4_toArray g 0 [(0, .ref x0)] [] g _
  refine r_aload_n (pc := 0) dJ4_toArray_0 rfl 0 rfl ?_
  refine r_getI (f := 19) (pc := 1) dJ4_toArray_1 q253 (Or.inl rfl) rfl (fun v1 => ?_)
  refine r_anewa (pc := 4) dJ4_toArray_4 q1291 mv1284 (fun q2 g3 => ?_)
  refine r_astore_n (pc := 7) dJ4_toArray_7 rfl (Nat.le_of_ble_eq_true rfl) rfl ?_
  refine r_iconst (v := (0 : Int32)) (pc := 8) dJ4_toArray_8 (by decide) ?_
  refine r_istore_n (pc := 9) dJ4_toArray_9 rfl (Nat.le_of_ble_eq_true rfl) rfl ?_
  refine r_aload_n (pc := 10) dJ4_toArray_10 rfl 2 rfl ?_
  refine r_getR (f := 20) (pc := 11) dJ4_toArray_11 q255 (Or.inl rfl) rfl (fun v4 => ?_)
  refine r_astore_n (pc := 14) dJ4_toArray_14 rfl (Nat.le_of_ble_eq_true rfl) rfl ?_
  refine AW_sub [2, 1, 0] rfl ?_
  refine f_J4_toArray_L15_w γ l hl _ q2 FU (0 : Int32) v4 g3
abbrev ck_J16_max : CK := ("java/lang/Math", prog_44_method_65_code, 2, (some .int), "max", [], 1)
def f_J16_max (γ : GP) (x0 : Int32) (x1 : Int32) (g : AH) : Option (Int32 × AH) := (if x0 < x1 then (some (x1, g)) else (some (x0, g)))
theorem t_J16_max (γ : GP) (l : Launch) (hl : l.stackTraces = false) (x0 : Int32) (x1 : Int32) (g : AH) : TrM ρI γ l ⟨"java/lang/Math", "max", "(II)I"⟩ (ws_ ⟨"java/lang/Math", "max", "(II)I"⟩ prog_44_method_65_code 2 (some .int)) 1 [.int x0, .int x1] g (f_J16_max γ x0 x1 g) := by
  refine TrM_of (by decide +kernel) (Nat.le_of_ble_eq_true rfl) ?_
  unfold f_J16_max
  change AW ρI γ l ck_J16_max g 0 [(0, .int x0), (1, .int x1)] [] g _
  refine r_iload_n (pc := 0) dJ16_max_0 rfl 0 rfl ?_
  refine r_iload_n (pc := 1) dJ16_max_1 rfl 1 rfl ?_
  refine r_icmp_lt (tgt := 9) (pc := 2) dJ16_max_2 (by decide) ?_ ?_
  · skip
    refine r_iload_n (pc := 9) dJ16_max_9 rfl 1 rfl ?_
    exact r_iret (pc := 10) dJ16_max_10 rfl
  · skip
    refine r_iload_n (pc := 5) dJ16_max_5 rfl 0 rfl ?_
    refine r_goto (tgt := 10) (pc := 6) dJ16_max_6 (by decide) ?_
    exact r_iret (pc := 10) dJ16_max_10 rfl
abbrev ck_J15_hugeLength : CK := ("jdk/internal/util/ArraysSupport", prog_106_method_28_code, 3, (some .int), "hugeLength", [], 1)
def f_J15_hugeLength (γ : GP) (x0 : Int32) (x1 : Int32) (g : AH) : Option (Int32 × AH) := (if 0 ≤ (x0 + x1) then (if (2147483639 : Int32) < (x0 + x1) then (some ((x0 + x1), g)) else (some ((2147483639 : Int32), g))) else none)
theorem t_J15_hugeLength (γ : GP) (l : Launch) (hl : l.stackTraces = false) (x0 : Int32) (x1 : Int32) (g : AH) : TrM ρI γ l ⟨"jdk/internal/util/ArraysSupport", "hugeLength", "(II)I"⟩ (ws_ ⟨"jdk/internal/util/ArraysSupport", "hugeLength", "(II)I"⟩ prog_106_method_28_code 3 (some .int)) 1 [.int x0, .int x1] g (f_J15_hugeLength γ x0 x1 g) := by
  refine TrM_of (plainFor_of_name (by decide)) (Nat.le_of_ble_eq_true rfl) ?_
  unfold f_J15_hugeLength
  change AW ρI γ l ck_J15_hugeLength g 0 [(0, .int x0), (1, .int x1)] [] g _
  refine r_iload_n (pc := 0) dJ15_hugeLength_0 rfl 0 rfl ?_
  refine r_iload_n (pc := 1) dJ15_hugeLength_1 rfl 1 rfl ?_
  refine r_iadd (pc := 2) dJ15_hugeLength_2 ?_
  refine r_istore_n (pc := 3) dJ15_hugeLength_3 rfl (Nat.le_of_ble_eq_true rfl) rfl ?_
  refine r_iload_n (pc := 4) dJ15_hugeLength_4 rfl 0 rfl ?_
  refine r_if_ge (tgt := 49) (pc := 5) dJ15_hugeLength_5 (by decide) ?_ ?_
  · skip
    refine r_iload_n (pc := 49) dJ15_hugeLength_49 rfl 0 rfl ?_
    refine r_ldci (v := (2147483639 : Int32)) (pc := 50) dJ15_hugeLength_50 q486 ?_
    refine r_icmp_gt (tgt := 58) (pc := 52) dJ15_hugeLength_52 (by decide) ?_ ?_
    · skip
      refine r_iload_n (pc := 58) dJ15_hugeLength_58 rfl 0 rfl ?_
      exact r_iret (pc := 59) dJ15_hugeLength_59 rfl
    · skip
      refine r_ldci (v := (2147483639 : Int32)) (pc := 55) dJ15_hugeLength_55 q486 ?_
      exact r_iret (pc := 57) dJ15_hugeLength_57 rfl
  · skip
    exact AW_none
abbrev ck_J15_newLength : CK := ("jdk/internal/util/ArraysSupport", prog_106_method_27_code, 4, (some .int), "newLength", [], 2)
def f_J15_newLength (γ : GP) (x0 : Int32) (x1 : Int32) (x2 : Int32) (g : AH) : Option (Int32 × AH) := bI (f_J16_max γ x1 x2 g) fun v2 g1 => jn (fun (g3 : AH) => bI (f_J15_hugeLength γ x0 x1 g3) fun v6 g5 => (some (v6, g5))) (fun (j4 : AH → Option (Int32 × AH)) => (if (x0 + v2) ≤ (0 : Int32) then j4 g1 else (if (2147483639 : Int32) < (x0 + v2) then j4 g1 else (some ((x0 + v2), g1)))))
theorem t_J15_newLength (γ : GP) (l : Launch) (hl : l.stackTraces = false) (x0 : Int32) (x1 : Int32) (x2 : Int32) (g : AH) : TrM ρI γ l ⟨"jdk/internal/util/ArraysSupport", "newLength", "(III)I"⟩ (ws_ ⟨"jdk/internal/util/ArraysSupport", "newLength", "(III)I"⟩ prog_106_method_27_code 4 (some .int)) 2 [.int x0, .int x1, .int x2] g (f_J15_newLength γ x0 x1 x2 g) := by
  refine TrM_of (plainFor_of_name (by decide)) (Nat.le_of_ble_eq_true rfl) ?_
  unfold f_J15_newLength
  change AW ρI γ l ck_J15_newLength g 0 [(0, .int x0), (1, .int x1), (2, .int x2)] [] g _
  refine r_iload_n (pc := 0) dJ15_newLength_0 rfl 0 rfl ?_
  refine r_iload_n (pc := 1) dJ15_newLength_1 rfl 1 rfl ?_
  refine r_iload_n (pc := 2) dJ15_newLength_2 rfl 2 rfl ?_
  refine r_cI (pc := 3) (rest := [.int x0]) (run_S (n := 2) (As := [.int x1, .int x2]) (rest := [.int x0]) (t_J16_max γ l hl x1 x2 g) dJ15_newLength_3 q483 q484 q129 q485 (by decide +kernel) rfl (Nat.le_of_ble_eq_true rfl) (Nat.le_of_ble_eq_true rfl) rfl (Nat.le_of_ble_eq_true rfl)) (fun v2 g1 => ?_)
  refine r_iadd (pc := 6) dJ15_newLength_6 ?_
  refine r_istore_n (pc := 7) dJ15_newLength_7 rfl (Nat.le_of_ble_eq_true rfl) rfl ?_
  refine r_iconst (v := (0 : Int32)) (pc := 8) dJ15_newLength_8 (by decide) ?_
  refine r_iload_n (pc := 9) dJ15_newLength_9 rfl 0 rfl ?_
  refine AW_jn (P := fun (j : AH → Option (Int32 × AH)) => ∀ (g3 : AH), AW ρI γ l ck_J15_newLength g 21 [(0, .int x0), (1, .int x1)] [] g3 (j g3)) (fun g3 => ?_) (fun j4 h_j4 => ?_)
  · skip
    refine r_iload_n (pc := 21) dJ15_newLength_21 rfl 0 rfl ?_
    refine r_iload_n (pc := 22) dJ15_newLength_22 rfl 1 rfl ?_
    refine r_cI (pc := 23) (rest := []) (run_S (n := 2) (As := [.int x0, .int x1]) (rest := []) (t_J15_hugeLength γ l hl x0 x1 g3) dJ15_newLength_23 q487 q488 q128 q489 (by decide +kernel) rfl (Nat.le_of_ble_eq_true rfl) (Nat.le_of_ble_eq_true rfl) rfl (Nat.le_of_ble_eq_true rfl)) (fun v6 g5 => ?_)
    exact r_iret (pc := 26) dJ15_newLength_26 rfl
  · skip
    refine r_icmp_ge (tgt := 21) (pc := 10) dJ15_newLength_10 (by decide) ?_ ?_
    · skip
      refine AW_sub [1, 2] rfl ?_
      exact h_j4 g1
    · skip
      refine r_iload_n (pc := 13) dJ15_newLength_13 rfl 0 rfl ?_
      refine r_ldci (v := (2147483639 : Int32)) (pc := 14) dJ15_newLength_14 q486 ?_
      refine r_icmp_gt (tgt := 21) (pc := 16) dJ15_newLength_16 (by decide) ?_ ?_
      · skip
        refine AW_sub [1, 2] rfl ?_
        exact h_j4 g1
      · skip
        refine r_iload_n (pc := 19) dJ15_newLength_19 rfl 0 rfl ?_
        exact r_iret (pc := 20) dJ15_newLength_20 rfl
abbrev ck_J2_grow : CK := ("java/util/ArrayList", prog_66_method_6_code, 4, (some (.array (.object "java/lang/Object"))), "grow", [], 4)
def f_J2_grow (γ : GP) (x0 : Nat) (x1 : Int32) (g : AH) : Option (Nat × AH) := gR g x0 15 fun v1 => gL g v1 fun v2 => jn (fun (g3 : AH) => bI (f_J15_newLength γ v2 (x1 - v2) (v2 >>> ((1 : Int32) &&& 31)) g3) fun v6 g5 => gR g5 x0 15 fun v7 => bR (f_J17_copyOf_2 γ v7 v6 g5) fun v9 g8 => pR γ g8 x0 15 v9 fun g10 => (some (v9, g10))) (fun (j4 : AH → Option (Nat × AH)) => (if 0 < v2 then j4 g else gR g x0 15 fun v11 => (if v11 = (γ.1 0) then bI (f_J16_max γ (10 : Int32) x1 g) fun v13 g12 => mA g12 106 v13 fun q14 g15 => pR γ g15 x0 15 q14 fun g16 => (some (q14, g16)) else j4 g)))
theorem t_J2_grow (γ : GP) (l : Launch) (hl : l.stackTraces = false) (x0 : Nat) (x1 : Int32) (g : AH) : TrM ρR γ l ⟨"java/util/ArrayList", "grow", "(I)[Ljava/lang/Object;"⟩ (ws_ ⟨"java/util/ArrayList", "grow", "(I)[Ljava/lang/Object;"⟩ prog_66_method_6_code 4 (some (.array (.object "java/lang/Object")))) 4 [.ref x0, .int x1] g (f_J2_grow γ x0 x1 g) := by
  refine TrM_of (plainFor_of_name (by decide)) (Nat.le_of_ble_eq_true rfl) ?_
  unfold f_J2_grow
  change AW ρR γ l ck_J2_grow g 0 [(0, .ref x0), (1, .int x1)] [] g _
  refine r_aload_n (pc := 0) dJ2_grow_0 rfl 0 rfl ?_
  refine r_getR (f := 15) (pc := 1) dJ2_grow_1 q207 (Or.inl rfl) rfl (fun v1 => ?_)
  refine r_alen (pc := 4) dJ2_grow_4 (fun v2 => ?_)
  refine r_istore_n (pc := 5) dJ2_grow_5 rfl (Nat.le_of_ble_eq_true rfl) rfl ?_
  refine r_iload_n (pc := 6) dJ2_grow_6 rfl 0 rfl ?_
  refine AW_jn (P := fun (j : AH → Option (Nat × AH)) => ∀ (g3 : AH), AW ρR γ l ck_J2_grow g 20 [(0, .ref x0), (1, .int x1), (2, .int v2)] [] g3 (j g3)) (fun g3 => ?_) (fun j4 h_j4 => ?_)
  · skip
    refine r_iload_n (pc := 20) dJ2_grow_20 rfl 2 rfl ?_
    refine r_iload_n (pc := 21) dJ2_grow_21 rfl 1 rfl ?_
    refine r_iload_n (pc := 22) dJ2_grow_22 rfl 2 rfl ?_
    refine r_isub (pc := 23) dJ2_grow_23 ?_
    refine r_iload_n (pc := 24) dJ2_grow_24 rfl 2 rfl ?_
    refine r_iconst (v := (1 : Int32)) (pc := 25) dJ2_grow_25 (by decide) ?_
    refine r_ishr (pc := 26) dJ2_grow_26 ?_
    refine r_cI (pc := 27) (rest := []) (run_S (n := 3) (As := [.int v2, .int (x1 - v2), .int (v2 >>> ((1 : Int32) &&& 31))]) (rest := []) (t_J15_newLength γ l hl v2 (x1 - v2) (v2 >>> ((1 : Int32) &&& 31)) g3) dJ2_grow_27 q1342 q481 q128 q482 (by decide +kernel) rfl (Nat.le_of_ble_eq_true rfl) (Nat.le_of_ble_eq_true rfl) rfl (Nat.le_of_ble_eq_true rfl)) (fun v6 g5 => ?_)
    refine r_istore_n (pc := 30) dJ2_grow_30 rfl (Nat.le_of_ble_eq_true rfl) rfl ?_
    refine r_aload_n (pc := 31) dJ2_grow_31 rfl 1 rfl ?_
    refine r_aload_n (pc := 32) dJ2_grow_32 rfl 1 rfl ?_
    refine r_getR (f := 15) (pc := 33) dJ2_grow_33 q207 (Or.inl rfl) rfl (fun v7 => ?_)
    refine r_iload_n (pc := 36) dJ2_grow_36 rfl 0 rfl ?_
    refine r_cR (pc := 37) (rest := [.ref x0]) (run_S (n := 2) (As := [.ref v7, .int v6]) (rest := [.ref x0]) (t_J17_copyOf_2 γ l hl v7 v6 g5) dJ2_grow_37 q1276 q1277 q130 q1278 (by decide +kernel) rfl (Nat.le_of_ble_eq_true rfl) (Nat.le_of_ble_eq_true rfl) rfl (Nat.le_of_ble_eq_true rfl)) (fun v9 g8 => ?_)
    refine r_dup_x1 (pc := 40) dJ2_grow_40 rfl rfl ?_
    refine r_putR (f := 15) (pc := 41) dJ2_grow_41 q207 (Or.inl rfl) (Or.inl rfl) rfl (fun g10 => ?_)
    exact r_aret (pc := 44) dJ2_grow_44 rfl (by first | exact Or.inl ⟨_, rfl⟩ | exact Or.inr ⟨_, rfl⟩)
  · skip
    refine r_if_gt (tgt := 20) (pc := 7) dJ2_grow_7 (by decide) ?_ ?_
    · skip
      refine AW_sub [1, 2, 0] rfl ?_
      exact h_j4 g
    · skip
      refine r_aload_n (pc := 10) dJ2_grow_10 rfl 1 rfl ?_
      refine r_getR (f := 15) (pc := 11) dJ2_grow_11 q207 (Or.inl rfl) rfl (fun v11 => ?_)
      refine r_gets (i := 0) (pc := 14) dJ2_grow_14 q205 (List.mem_of_getElem? (i := 0) rfl) rfl ?_
      refine r_acmp_eq (tgt := 45) (pc := 17) dJ2_grow_17 (by decide) ?_ ?_
      · skip
        refine r_aload_n (pc := 45) dJ2_grow_45 rfl 1 rfl ?_
        refine r_bipush (v := (10 : Int32)) (pc := 46) dJ2_grow_46 (by decide) ?_
        refine r_iload_n (pc := 48) dJ2_grow_48 rfl 2 rfl ?_
        refine r_cI (pc := 49) (rest := [.ref x0]) (run_S (n := 2) (As := [.int (10 : Int32), .int x1]) (rest := [.ref x0]) (t_J16_max γ l hl (10 : Int32) x1 g) dJ2_grow_49 q1343 q484 q129 q485 (by decide +kernel) rfl (Nat.le_of_ble_eq_true rfl) (Nat.le_of_ble_eq_true rfl) rfl (Nat.le_of_ble_eq_true rfl)) (fun v13 g12 => ?_)
        refine r_anewa (pc := 52) dJ2_grow_52 q1344 mv1284 (fun q14 g15 => ?_)
        refine r_dup_x1 (pc := 55) dJ2_grow_55 rfl rfl ?_
        refine r_putR (f := 15) (pc := 56) dJ2_grow_56 q207 (Or.inl rfl) (Or.inl rfl) rfl (fun g16 => ?_)
        exact r_aret (pc := 59) dJ2_grow_59 rfl (by first | exact Or.inl ⟨_, rfl⟩ | exact Or.inr ⟨_, rfl⟩)
      · skip
        refine AW_sub [1, 2, 0] rfl ?_
        exact h_j4 g
abbrev ck_J2_addAll : CK := ("java/util/ArrayList", prog_66_method_41_code, 6, (some .boolean), "addAll", [], 5)
def f_J2_addAll (γ : GP) (x0 : Nat) (x1 : Nat) (g : AH) : Option (Int32 × AH) := bR ((if hK g x1 = 3 then f_J2_toArray γ x1 g else if hK g x1 = 5 then f_J4_toArray γ x1 g else none)) fun v2 g1 => gI g1 x0 14 fun v3 => pI γ g1 x0 14 (v3 + (1 : Int32)) fun g4 => gL g4 v2 fun v5 => (if v5 = 0 then (rtN .boolean (0 : Int32) g4) else gR g4 x0 15 fun v6 => gL g4 v6 fun v7 => gI g4 x0 16 fun v8 => jn (fun (y9 : Nat) (g10 : AH) => nCQ γ g10 v2 (0 : Int32) y9 v8 v5 fun g12 => pI γ g12 x0 16 (v8 + v5) fun g13 => (rtN .boolean (1 : Int32) g13)) (fun (j11 : Nat → AH → Option (Int32 × AH)) => (if v5 ≤ (v7 - v8) then j11 v6 g4 else bR ((if hK g4 x0 = 3 then f_J2_grow γ x0 (v8 + v5) g4 else none)) fun v15 g14 => j11 v15 g14)))
theorem t_J2_addAll (γ : GP) (l : Launch) (hl : l.stackTraces = false) (x0 : Nat) (x1 : Nat) (g : AH) : TrM ρI γ l ⟨"java/util/ArrayList", "addAll", "(Ljava/util/Collection;)Z"⟩ (ws_ ⟨"java/util/ArrayList", "addAll", "(Ljava/util/Collection;)Z"⟩ prog_66_method_41_code 6 (some .boolean)) 5 [.ref x0, .ref x1] g (f_J2_addAll γ x0 x1 g) := by
  refine TrM_of (plainFor_of_name (by decide)) (Nat.le_of_ble_eq_true rfl) ?_
  unfold f_J2_addAll
  change AW ρI γ l ck_J2_addAll g 0 [(0, .ref x0), (1, .ref x1)] [] g _
  refine r_aload_n (pc := 0) dJ2_addAll_0 rfl 1 rfl ?_
  refine r_cR (pc := 1) (rest := []) (RunOK_if (fun h => run_F (n := 0) (c9 := 3) (As := []) (rest := []) (t_J2_toArray γ l hl x1 g) dJ2_addAll_1 q1268 q1271 q1273 q112 q1275 (by decide +kernel) (by decide +kernel) rfl h ⟨by decide, by decide⟩ (Nat.le_of_ble_eq_true rfl) (Nat.le_of_ble_eq_true rfl) rfl (Nat.le_of_ble_eq_true rfl)) (RunOK_chk (fun h => run_F (n := 0) (c9 := 5) (As := []) (rest := []) (t_J4_toArray γ l hl x1 g) dJ2_addAll_1 q1268 q1286 q1288 q116 q1290 (by decide +kernel) (by decide +kernel) rfl h ⟨by decide, by decide⟩ (Nat.le_of_ble_eq_true rfl) (Nat.le_of_ble_eq_true rfl) rfl (Nat.le_of_ble_eq_true rfl)))) (fun v2 g1 => ?_)
  refine r_astore_n (pc := 6) dJ2_addAll_6 rfl (Nat.le_of_ble_eq_true rfl) rfl ?_
  refine r_aload_n (pc := 7) dJ2_addAll_7 rfl 1 rfl ?_
  refine r_dup (pc := 8) dJ2_addAll_8 rfl ?_
  refine r_getI (f := 14) (pc := 9) dJ2_addAll_9 q218 (Or.inr q215) rfl (fun v3 => ?_)
  refine r_iconst (v := (1 : Int32)) (pc := 12) dJ2_addAll_12 (by decide) ?_
  refine r_iadd (pc := 13) dJ2_addAll_13 ?_
  refine r_putI (f := 14) (pc := 14) dJ2_addAll_14 q218 (Or.inr q215) (Or.inl rfl) rfl (fun g4 => ?_)
  refine r_aload_n (pc := 17) dJ2_addAll_17 rfl 0 rfl ?_
  refine r_alen (pc := 18) dJ2_addAll_18 (fun v5 => ?_)
  refine r_istore_n (pc := 19) dJ2_addAll_19 rfl (Nat.le_of_ble_eq_true rfl) rfl ?_
  refine r_iload_n (pc := 20) dJ2_addAll_20 rfl 0 rfl ?_
  refine r_if_ne (tgt := 26) (pc := 21) dJ2_addAll_21 (by decide) ?_ ?_
  · skip
    refine r_iconst (v := (0 : Int32)) (pc := 24) dJ2_addAll_24 (by decide) ?_
    exact r_zret (ty := .boolean) (pc := 25) dJ2_addAll_25 rfl
  · skip
    refine r_iload_n (pc := 26) dJ2_addAll_26 rfl 0 rfl ?_
    refine r_aload_n (pc := 27) dJ2_addAll_27 rfl 2 rfl ?_
    refine r_getR (f := 15) (pc := 28) dJ2_addAll_28 q207 (Or.inl rfl) rfl (fun v6 => ?_)
    refine r_dup (pc := 31) dJ2_addAll_31 rfl ?_
    refine r_astore (pc := 32) dJ2_addAll_32 (Nat.le_of_ble_eq_true rfl) rfl ?_
    refine r_alen (pc := 34) dJ2_addAll_34 (fun v7 => ?_)
    refine r_aload_n (pc := 35) dJ2_addAll_35 rfl 3 rfl ?_
    refine r_getI (f := 16) (pc := 36) dJ2_addAll_36 q210 (Or.inl rfl) rfl (fun v8 => ?_)
    refine r_dup (pc := 39) dJ2_addAll_39 rfl ?_
    refine r_istore (pc := 40) dJ2_addAll_40 (Nat.le_of_ble_eq_true rfl) rfl ?_
    refine r_isub (pc := 42) dJ2_addAll_42 ?_
    refine AW_jn (P := fun (j : Nat → AH → Option (Int32 × AH)) => ∀ (y9 : Nat) (g10 : AH), AW ρI γ l ck_J2_addAll g 56 [(0, .ref x0), (2, .ref v2), (3, .int v5), (4, .ref y9), (5, .int v8)] [] g10 (j y9 g10)) (fun y9 g10 => ?_) (fun j11 h_j11 => ?_)
    · skip
      refine r_aload_n (pc := 56) dJ2_addAll_56 rfl 1 rfl ?_
      refine r_iconst (v := (0 : Int32)) (pc := 57) dJ2_addAll_57 (by decide) ?_
      refine r_aload (pc := 58) dJ2_addAll_58 3 rfl ?_
      refine r_iload (pc := 60) dJ2_addAll_60 4 rfl ?_
      refine r_iload_n (pc := 62) dJ2_addAll_62 rfl 2 rfl ?_
      refine r_copyQ (pc := 63) dJ2_addAll_63 q1345 q506 q505 q131 (by decide) (Nat.le_of_ble_eq_true rfl) (fun g12 => ?_)
      refine r_aload_n (pc := 66) dJ2_addAll_66 rfl 0 rfl ?_
      refine r_iload (pc := 67) dJ2_addAll_67 4 rfl ?_
      refine r_iload_n (pc := 69) dJ2_addAll_69 rfl 2 rfl ?_
      refine r_iadd (pc := 70) dJ2_addAll_70 ?_
      refine r_putI (f := 16) (pc := 71) dJ2_addAll_71 q210 (Or.inl rfl) (Or.inl rfl) rfl (fun g13 => ?_)
      refine r_iconst (v := (1 : Int32)) (pc := 74) dJ2_addAll_74 (by decide) ?_
      exact r_zret (ty := .boolean) (pc := 75) dJ2_addAll_75 rfl
    · skip
      refine r_icmp_le (tgt := 56) (pc := 43) dJ2_addAll_43 (by decide) ?_ ?_
      · skip
        refine AW_sub [4, 3, 2, 1, 0] rfl ?_
        exact h_j11 v6 g4
      · skip
        refine r_aload_n (pc := 46) dJ2_addAll_46 rfl 4 rfl ?_
        refine r_iload (pc := 47) dJ2_addAll_47 0 rfl ?_
        refine r_iload_n (pc := 49) dJ2_addAll_49 rfl 2 rfl ?_
        refine r_iadd (pc := 50) dJ2_addAll_50 ?_
        refine r_cR (pc := 51) (rest := []) (RunOK_chk (fun h => run_V (n := 1) (c9 := 3) (As := [.int (v8 + v5)]) (rest := []) (t_J2_grow γ l hl x0 (v8 + v5) g4) dJ2_addAll_51 q1338 q1340 qs8 q112 q1341 (by decide +kernel) rfl h ⟨rfl, by decide, by decide⟩ (Nat.le_of_ble_eq_true rfl) (Nat.le_of_ble_eq_true rfl) rfl (Nat.le_of_ble_eq_true rfl))) (fun v15 g14 => ?_)
        refine r_astore (pc := 54) dJ2_addAll_54 (Nat.le_of_ble_eq_true rfl) rfl ?_
        refine AW_sub [4, 3, 2, 0, 1] rfl ?_
        exact h_j11 v15 g14
abbrev ck_J2_grow_2 : CK := ("java/util/ArrayList", prog_66_method_7_code, 1, (some (.array (.object "java/lang/Object"))), "grow", [], 5)
def f_J2_grow_2 (γ : GP) (x0 : Nat) (g : AH) : Option (Nat × AH) := gI g x0 16 fun v1 => bR ((if hK g x0 = 3 then f_J2_grow γ x0 (v1 + (1 : Int32)) g else none)) fun v3 g2 => (some (v3, g2))
theorem t_J2_grow_2 (γ : GP) (l : Launch) (hl : l.stackTraces = false) (x0 : Nat) (g : AH) : TrM ρR γ l ⟨"java/util/ArrayList", "grow", "()[Ljava/lang/Object;"⟩ (ws_ ⟨"java/util/ArrayList", "grow", "()[Ljava/lang/Object;"⟩ prog_66_method_7_code 1 (some (.array (.object "java/lang/Object")))) 5 [.ref x0] g (f_J2_grow_2 γ x0 g) := by
  refine TrM_of (plainFor_of_name (by decide)) (Nat.le_of_ble_eq_true rfl) ?_
  unfold f_J2_grow_2
  change AW ρR γ l ck_J2_grow_2 g 0 [(0, .ref x0)] [] g _
  refine r_aload_n (pc := 0) dJ2_grow_2_0 rfl 0 rfl ?_
  refine r_aload_n (pc := 1) dJ2_grow_2_1 rfl 0 rfl ?_
  refine r_getI (f := 16) (pc := 2) dJ2_grow_2_2 q210 (Or.inl rfl) rfl (fun v1 => ?_)
  refine r_iconst (v := (1 : Int32)) (pc := 5) dJ2_grow_2_5 (by decide) ?_
  refine r_iadd (pc := 6) dJ2_grow_2_6 ?_
  refine r_cR (pc := 7) (rest := []) (RunOK_chk (fun h => run_V (n := 1) (c9 := 3) (As := [.int (v1 + (1 : Int32))]) (rest := []) (t_J2_grow γ l hl x0 (v1 + (1 : Int32)) g) dJ2_grow_2_7 q1338 q1340 qs8 q112 q1341 (by decide +kernel) rfl h ⟨rfl, by decide, by decide⟩ (Nat.le_of_ble_eq_true rfl) (Nat.le_of_ble_eq_true rfl) rfl (Nat.le_of_ble_eq_true rfl))) (fun v3 g2 => ?_)
  exact r_aret (pc := 10) dJ2_grow_2_10 rfl (by first | exact Or.inl ⟨_, rfl⟩ | exact Or.inr ⟨_, rfl⟩)
abbrev ck_J2_add_2 : CK := ("java/util/ArrayList", prog_66_method_24_code, 4, none, "add", [], 6)
def f_J2_add_2 (γ : GP) (x0 : Nat) (x1 : Nat) (x2 : Nat) (x3 : Int32) (g : AH) : Option (AH) := gL g x2 fun v1 => jn (fun (y2 : Nat) (g3 : AH) => pQ γ g3 y2 x3 x1 fun g5 => pI γ g5 x0 16 (x3 + (1 : Int32)) fun g6 => (some g6)) (fun (j4 : Nat → AH → Option (AH)) => (if x3 = v1 then bR ((if hK g x0 = 3 then f_J2_grow_2 γ x0 g else none)) fun v8 g7 => j4 v8 g7 else j4 x2 g))
theorem t_J2_add_2 (γ : GP) (l : Launch) (hl : l.stackTraces = false) (x0 : Nat) (x1 : Nat) (x2 : Nat) (x3 : Int32) (g : AH) : TrM ρV γ l ⟨"java/util/ArrayList", "add", "(Ljava/lang/Object;[Ljava/lang/Object;I)V"⟩ (ws_ ⟨"java/util/ArrayList", "add", "(Ljava/lang/Object;[Ljava/lang/Object;I)V"⟩ prog_66_method_24_code 4 none) 6 [.ref x0, .ref x1, .ref x2, .int x3] g (f_J2_add_2 γ x0 x1 x2 x3 g) := by
  refine TrM_of (plainFor_of_name (by decide)) (Nat.le_of_ble_eq_true rfl) ?_
  unfold f_J2_add_2
  change AW ρV γ l ck_J2_add_2 g 0 [(0, .ref x0), (1, .ref x1), (2, .ref x2), (3, .int x3)] [] g _
  refine r_iload_n (pc := 0) dJ2_add_2_0 rfl 3 rfl ?_
  refine r_aload_n (pc := 1) dJ2_add_2_1 rfl 2 rfl ?_
  refine r_alen (pc := 2) dJ2_add_2_2 (fun v1 => ?_)
  refine AW_jn (P := fun (j : Nat → AH → Option (AH)) => ∀ (y2 : Nat) (g3 : AH), AW ρV γ l ck_J2_add_2 g 11 [(0, .ref x0), (1, .ref x1), (2, .ref y2), (3, .int x3)] [] g3 (j y2 g3)) (fun y2 g3 => ?_) (fun j4 h_j4 => ?_)
  · skip
    refine r_aload_n (pc := 11) dJ2_add_2_11 rfl 2 rfl ?_
    refine r_iload_n (pc := 12) dJ2_add_2_12 rfl 3 rfl ?_
    refine r_aload_n (pc := 13) dJ2_add_2_13 rfl 1 rfl ?_
    refine r_aast (pc := 14) dJ2_add_2_14 (fun g5 => ?_)
    refine r_aload_n (pc := 15) dJ2_add_2_15 rfl 0 rfl ?_
    refine r_iload_n (pc := 16) dJ2_add_2_16 rfl 3 rfl ?_
    refine r_iconst (v := (1 : Int32)) (pc := 17) dJ2_add_2_17 (by decide) ?_
    refine r_iadd (pc := 18) dJ2_add_2_18 ?_
    refine r_putI (f := 16) (pc := 19) dJ2_add_2_19 q210 (Or.inl rfl) (Or.inl rfl) rfl (fun g6 => ?_)
    exact r_vret (pc := 22) dJ2_add_2_22 rfl
  · skip
    refine r_icmp_ne (tgt := 11) (pc := 3) dJ2_add_2_3 (by decide) ?_ ?_
    · skip
      refine r_aload_n (pc := 6) dJ2_add_2_6 rfl 0 rfl ?_
      refine r_cR (pc := 7) (rest := []) (RunOK_chk (fun h => run_V (n := 0) (c9 := 3) (As := []) (rest := []) (t_J2_grow_2 γ l hl x0 g) dJ2_add_2_7 q1392 q1394 qs10 q112 q1395 (by decide +kernel) rfl h ⟨rfl, by decide, by decide⟩ (Nat.le_of_ble_eq_true rfl) (Nat.le_of_ble_eq_true rfl) rfl (Nat.le_of_ble_eq_true rfl))) (fun v8 g7 => ?_)
      refine r_astore_n (pc := 10) dJ2_add_2_10 rfl (Nat.le_of_ble_eq_true rfl) rfl ?_
      refine AW_sub [1, 2, 0, 3] rfl ?_
      exact h_j4 v8 g7
    · skip
      exact h_j4 x2 g
abbrev ck_J2_add : CK := ("java/util/ArrayList", prog_66_method_25_code, 2, (some .boolean), "add", [], 7)
def f_J2_add (γ : GP) (x0 : Nat) (x1 : Nat) (g : AH) : Option (Int32 × AH) := gI g x0 14 fun v1 => pI γ g x0 14 (v1 + (1 : Int32)) fun g2 => gR g2 x0 15 fun v3 => gI g2 x0 16 fun v4 => bV ((if hK g2 x0 = 3 then f_J2_add_2 γ x0 x1 v3 v4 g2 else none)) fun g5 => (rtN .boolean (1 : Int32) g5)
theorem t_J2_add (γ : GP) (l : Launch) (hl : l.stackTraces = false) (x0 : Nat) (x1 : Nat) (g : AH) : TrM ρI γ l ⟨"java/util/ArrayList", "add", "(Ljava/lang/Object;)Z"⟩ (ws_ ⟨"java/util/ArrayList", "add", "(Ljava/lang/Object;)Z"⟩ prog_66_method_25_code 2 (some .boolean)) 7 [.ref x0, .ref x1] g (f_J2_add γ x0 x1 g) := by
  refine TrM_of (plainFor_of_name (by decide)) (Nat.le_of_ble_eq_true rfl) ?_
  unfold f_J2_add
  change AW ρI γ l ck_J2_add g 0 [(0, .ref x0), (1, .ref x1)] [] g _
  refine r_aload_n (pc := 0) dJ2_add_0 rfl 0 rfl ?_
  refine r_dup (pc := 1) dJ2_add_1 rfl ?_
  refine r_getI (f := 14) (pc := 2) dJ2_add_2 q218 (Or.inr q215) rfl (fun v1 => ?_)
  refine r_iconst (v := (1 : Int32)) (pc := 5) dJ2_add_5 (by decide) ?_
  refine r_iadd (pc := 6) dJ2_add_6 ?_
  refine r_putI (f := 14) (pc := 7) dJ2_add_7 q218 (Or.inr q215) (Or.inl rfl) rfl (fun g2 => ?_)
  refine r_aload_n (pc := 10) dJ2_add_10 rfl 0 rfl ?_
  refine r_aload_n (pc := 11) dJ2_add_11 rfl 1 rfl ?_
  refine r_aload_n (pc := 12) dJ2_add_12 rfl 0 rfl ?_
  refine r_getR (f := 15) (pc := 13) dJ2_add_13 q207 (Or.inl rfl) rfl (fun v3 => ?_)
  refine r_aload_n (pc := 16) dJ2_add_16 rfl 0 rfl ?_
  refine r_getI (f := 16) (pc := 17) dJ2_add_17 q210 (Or.inl rfl) rfl (fun v4 => ?_)
  refine r_cV (pc := 20) (rest := []) (RunOK_chk (fun h => run_V (n := 3) (c9 := 3) (As := [.ref x1, .ref v3, .int v4]) (rest := []) (t_J2_add_2 γ l hl x0 x1 v3 v4 g2) dJ2_add_20 q1388 q1390 qs9 q112 q1391 (by decide +kernel) rfl h ⟨rfl, by decide, by decide⟩ (Nat.le_of_ble_eq_true rfl) (Nat.le_of_ble_eq_true rfl) rfl (Nat.le_of_ble_eq_true rfl))) (fun g5 => ?_)
  refine r_iconst (v := (1 : Int32)) (pc := 23) dJ2_add_23 (by decide) ?_
  exact r_zret (ty := .boolean) (pc := 24) dJ2_add_24 rfl
abbrev ck_J27_init : CK := ("java/util/AbstractMap", prog_63_method_1_code, 1, none, "<init>", [], 2)
def f_J27_init (γ : GP) (x0 : Nat) (g : AH) : Option (AH) := (if x0 ≠ 0 then (some g) else none)
theorem t_J27_init (γ : GP) (l : Launch) (hl : l.stackTraces = false) (x0 : Nat) (g : AH) : TrM ρV γ l ⟨"java/util/AbstractMap", "<init>", "()V"⟩ (ws_ ⟨"java/util/AbstractMap", "<init>", "()V"⟩ prog_63_method_1_code 1 none) 2 [.ref x0] g (f_J27_init γ x0 g) := by
  refine TrM_of (plainFor_of_name (by decide)) (Nat.le_of_ble_eq_true rfl) ?_
  unfold f_J27_init
  change AW ρV γ l ck_J27_init g 0 [(0, .ref x0)] [] g _
  refine r_aload_n (pc := 0) dJ27_init_0 rfl 0 rfl ?_
  refine r_objInit (pc := 1) dJ27_init_1 q1423 q185 q186 (by decide) (Nat.le_of_ble_eq_true rfl) ?_
  exact r_vret (pc := 4) dJ27_init_4 rfl
abbrev ck_J28_init : CK := ("java/util/TreeMap", prog_93_method_1_code, 1, none, "<init>", [], 3)
def f_J28_init (γ : GP) (x0 : Nat) (g : AH) : Option (AH) := bV ((if x0 ≠ 0 then f_J27_init γ x0 g else none)) fun g1 => pI γ g1 x0 71 (0 : Int32) fun g2 => pI γ g2 x0 72 (0 : Int32) fun g3 => pR γ g3 x0 69 0 fun g4 => (some g4)
theorem t_J28_init (γ : GP) (l : Launch) (hl : l.stackTraces = false) (x0 : Nat) (g : AH) : TrM ρV γ l ⟨"java/util/TreeMap", "<init>", "()V"⟩ (ws_ ⟨"java/util/TreeMap", "<init>", "()V"⟩ prog_93_method_1_code 1 none) 3 [.ref x0] g (f_J28_init γ x0 g) := by
  refine TrM_of (plainFor_of_name (by decide)) (Nat.le_of_ble_eq_true rfl) ?_
  unfold f_J28_init
  change AW ρV γ l ck_J28_init g 0 [(0, .ref x0)] [] g _
  refine r_aload_n (pc := 0) dJ28_init_0 rfl 0 rfl ?_
  refine r_cV (pc := 1) (rest := []) (RunOK_chk (fun h => run_I (n := 0) (As := []) (rest := []) (t_J27_init γ l hl x0 g) dJ28_init_1 q1420 q1421 q142 q1422 rfl (by decide +kernel) rfl h (Nat.le_of_ble_eq_true rfl) (Nat.le_of_ble_eq_true rfl) rfl (Nat.le_of_ble_eq_true rfl))) (fun g1 => ?_)
  refine r_aload_n (pc := 4) dJ28_init_4 rfl 0 rfl ?_
  refine r_iconst (v := (0 : Int32)) (pc := 5) dJ28_init_5 (by decide) ?_
  refine r_putI (f := 71) (pc := 6) dJ28_init_6 q1426 (Or.inl rfl) (Or.inl rfl) rfl (fun g2 => ?_)
  refine r_aload_n (pc := 9) dJ28_init_9 rfl 0 rfl ?_
  refine r_iconst (v := (0 : Int32)) (pc := 10) dJ28_init_10 (by decide) ?_
  refine r_putI (f := 72) (pc := 11) dJ28_init_11 q1428 (Or.inl rfl) (Or.inl rfl) rfl (fun g3 => ?_)
  refine r_aload_n (pc := 14) dJ28_init_14 rfl 0 rfl ?_
  refine r_null (pc := 15) dJ28_init_15 ?_
  refine r_putR (f := 69) (pc := 16) dJ28_init_16 q1424 (Or.inl rfl) (Or.inr ⟨rfl, rfl⟩) rfl (fun g4 => ?_)
  exact r_vret (pc := 19) dJ28_init_19 rfl
abbrev ck_J34_init : CK := ("java/util/AbstractSet", prog_65_method_1_code, 1, none, "<init>", [], 3)
def f_J34_init (γ : GP) (x0 : Nat) (g : AH) : Option (AH) := bV ((if x0 ≠ 0 then f_J0_init γ x0 g else none)) fun g1 => (some g1)
theorem t_J34_init (γ : GP) (l : Launch) (hl : l.stackTraces = false) (x0 : Nat) (g : AH) : TrM ρV γ l ⟨"java/util/AbstractSet", "<init>", "()V"⟩ (ws_ ⟨"java/util/AbstractSet", "<init>", "()V"⟩ prog_65_method_1_code 1 none) 3 [.ref x0] g (f_J34_init γ x0 g) := by
  refine TrM_of (plainFor_of_name (by decide)) (Nat.le_of_ble_eq_true rfl) ?_
  unfold f_J34_init
  change AW ρV γ l ck_J34_init g 0 [(0, .ref x0)] [] g _
  refine r_aload_n (pc := 0) dJ34_init_0 rfl 0 rfl ?_
  refine r_cV (pc := 1) (rest := []) (RunOK_chk (fun h => run_I (n := 0) (As := []) (rest := []) (t_J0_init γ l hl x0 g) dJ34_init_1 q1484 q202 q110 q203 rfl (by decide +kernel) rfl h (Nat.le_of_ble_eq_true rfl) (Nat.le_of_ble_eq_true rfl) rfl (Nat.le_of_ble_eq_true rfl))) (fun g1 => ?_)
  exact r_vret (pc := 4) dJ34_init_4 rfl
abbrev ck_J35_init : CK := ("java/util/TreeMap$KeySet", prog_98_method_1_code, 2, none, "<init>", [], 4)
def f_J35_init (γ : GP) (x0 : Nat) (x1 : Nat) (g : AH) : Option (AH) := bV ((if x0 ≠ 0 then f_J34_init γ x0 g else none)) fun g1 => pR γ g1 x0 92 x1 fun g2 => (some g2)
theorem t_J35_init (γ : GP) (l : Launch) (hl : l.stackTraces = false) (x0 : Nat) (x1 : Nat) (g : AH) : TrM ρV γ l ⟨"java/util/TreeMap$KeySet", "<init>", "(Ljava/util/NavigableMap;)V"⟩ (ws_ ⟨"java/util/TreeMap$KeySet", "<init>", "(Ljava/util/NavigableMap;)V"⟩ prog_98_method_1_code 2 none) 4 [.ref x0, .ref x1] g (f_J35_init γ x0 x1 g) := by
  refine TrM_of (plainFor_of_name (by decide)) (Nat.le_of_ble_eq_true rfl) ?_
  unfold f_J35_init
  change AW ρV γ l ck_J35_init g 0 [(0, .ref x0), (1, .ref x1)] [] g _
  refine r_aload_n (pc := 0) dJ35_init_0 rfl 0 rfl ?_
  refine r_cV (pc := 1) (rest := []) (RunOK_chk (fun h => run_I (n := 0) (As := []) (rest := []) (t_J34_init γ l hl x0 g) dJ35_init_1 q1481 q1482 q151 q1483 rfl (by decide +kernel) rfl h (Nat.le_of_ble_eq_true rfl) (Nat.le_of_ble_eq_true rfl) rfl (Nat.le_of_ble_eq_true rfl))) (fun g1 => ?_)
  refine r_aload_n (pc := 4) dJ35_init_4 rfl 0 rfl ?_
  refine r_aload_n (pc := 5) dJ35_init_5 rfl 1 rfl ?_
  refine r_putR (f := 92) (pc := 6) dJ35_init_6 q1485 (Or.inl rfl) (Or.inr ⟨rfl, rfl⟩) rfl (fun g2 => ?_)
  exact r_vret (pc := 9) dJ35_init_9 rfl
abbrev ck_J28_navigableKeySet : CK := ("java/util/TreeMap", prog_93_method_50_code, 2, (some (.object "java/util/NavigableSet")), "navigableKeySet", [], 5)
def f_J28_navigableKeySet (γ : GP) (x0 : Nat) (g : AH) : Option (Nat × AH) := gR g x0 74 fun v1 => (if v1 = 0 then mO g 21 fun q2 g3 => bV ((if q2 ≠ 0 then f_J35_init γ q2 x0 g3 else none)) fun g4 => pR γ g4 x0 74 q2 fun g5 => (some (q2, g5)) else (some (v1, g)))
theorem t_J28_navigableKeySet (γ : GP) (l : Launch) (hl : l.stackTraces = false) (x0 : Nat) (g : AH) : TrM ρR γ l ⟨"java/util/TreeMap", "navigableKeySet", "()Ljava/util/NavigableSet;"⟩ (ws_ ⟨"java/util/TreeMap", "navigableKeySet", "()Ljava/util/NavigableSet;"⟩ prog_93_method_50_code 2 (some (.object "java/util/NavigableSet"))) 5 [.ref x0] g (f_J28_navigableKeySet γ x0 g) := by
  refine TrM_of (plainFor_of_name (by decide)) (Nat.le_of_ble_eq_true rfl) ?_
  unfold f_J28_navigableKeySet
  change AW ρR γ l ck_J28_navigableKeySet g 0 [(0, .ref x0)] [] g _
  refine r_aload_n (pc := 0) dJ28_navigableKeySet_0 rfl 0 rfl ?_
  refine r_getR (f := 74) (pc := 1) dJ28_navigableKeySet_1 q1430 (Or.inl rfl) rfl (fun v1 => ?_)
  refine r_astore_n (pc := 4) dJ28_navigableKeySet_4 rfl (Nat.le_of_ble_eq_true rfl) rfl ?_
  refine r_aload_n (pc := 5) dJ28_navigableKeySet_5 rfl 0 rfl ?_
  refine r_ifnull (tgt := 13) (pc := 6) dJ28_navigableKeySet_6 (by decide) ?_ ?_
  · skip
    refine r_aload_n (pc := 13) dJ28_navigableKeySet_13 rfl 1 rfl ?_
    refine r_new (c := 21) (pc := 14) dJ28_navigableKeySet_14 q1476 (by decide) (by decide) (fun q2 g3 => ?_)
    refine r_dup (pc := 17) dJ28_navigableKeySet_17 rfl ?_
    refine r_aload_n (pc := 18) dJ28_navigableKeySet_18 rfl 1 rfl ?_
    refine r_cV (pc := 19) (rest := [.ref q2, .ref x0]) (RunOK_chk (fun h => run_I (n := 1) (As := [.ref x0]) (rest := [.ref q2, .ref x0]) (t_J35_init γ l hl q2 x0 g3) dJ28_navigableKeySet_19 q1478 q1479 q152 q1480 rfl (by decide +kernel) rfl h (Nat.le_of_ble_eq_true rfl) (Nat.le_of_ble_eq_true rfl) rfl (Nat.le_of_ble_eq_true rfl))) (fun g4 => ?_)
    refine r_dup_x1 (pc := 22) dJ28_navigableKeySet_22 rfl rfl ?_
    refine r_putR (f := 74) (pc := 23) dJ28_navigableKeySet_23 q1430 (Or.inl rfl) (Or.inl rfl) rfl (fun g5 => ?_)
    exact r_aret (pc := 26) dJ28_navigableKeySet_26 rfl (by first | exact Or.inl ⟨_, rfl⟩ | exact Or.inr ⟨_, rfl⟩)
  · skip
    refine r_aload_n (pc := 9) dJ28_navigableKeySet_9 rfl 0 rfl ?_
    refine r_goto (tgt := 26) (pc := 10) dJ28_navigableKeySet_10 (by decide) ?_
    exact r_aret (pc := 26) dJ28_navigableKeySet_26 rfl (by first | exact Or.inl ⟨_, rfl⟩ | exact Or.inr ⟨_, rfl⟩)
abbrev ck_J28_keySet : CK := ("java/util/TreeMap", prog_93_method_49_code, 1, (some (.object "java/util/Set")), "keySet", [], 6)
def f_J28_keySet (γ : GP) (x0 : Nat) (g : AH) : Option (Nat × AH) := bR ((if hK g x0 = 15 then f_J28_navigableKeySet γ x0 g else none)) fun v2 g1 => (some (v2, g1))
theorem t_J28_keySet (γ : GP) (l : Launch) (hl : l.stackTraces = false) (x0 : Nat) (g : AH) : TrM ρR γ l ⟨"java/util/TreeMap", "keySet", "()Ljava/util/Set;"⟩ (ws_ ⟨"java/util/TreeMap", "keySet", "()Ljava/util/Set;"⟩ prog_93_method_49_code 1 (some (.object "java/util/Set"))) 6 [.ref x0] g (f_J28_keySet γ x0 g) := by
  refine TrM_of (plainFor_of_name (by decide)) (Nat.le_of_ble_eq_true rfl) ?_
  unfold f_J28_keySet
  change AW ρR γ l ck_J28_keySet g 0 [(0, .ref x0)] [] g _
  refine r_aload_n (pc := 0) dJ28_keySet_0 rfl 0 rfl ?_
  refine r_cR (pc := 1) (rest := []) (RunOK_chk (fun h => run_V (n := 0) (c9 := 15) (As := []) (rest := []) (t_J28_navigableKeySet γ l hl x0 g) dJ28_keySet_1 q1472 q1473 q1474 q143 q1475 (by decide +kernel) rfl h ⟨rfl, by decide, by decide⟩ (Nat.le_of_ble_eq_true rfl) (Nat.le_of_ble_eq_true rfl) rfl (Nat.le_of_ble_eq_true rfl))) (fun v2 g1 => ?_)
  exact r_aret (pc := 4) dJ28_keySet_4 rfl (by first | exact Or.inl ⟨_, rfl⟩ | exact Or.inr ⟨_, rfl⟩)
abbrev ck_J28_getFirstEntry : CK := ("java/util/TreeMap", prog_93_method_72_code, 2, (some (.object "java/util/TreeMap$Entry")), "getFirstEntry", [], 1)
def f_J28_getFirstEntry_L9 (γ : GP) : Nat → Nat → AH → Option (Nat × AH)
  | 0, _, _ => none
  | n + 1, x1, g => gR g x1 99 fun v2 => (if v2 = 0 then (some (x1, g)) else gR g x1 99 fun v3 => f_J28_getFirstEntry_L9 γ n v3 g)
def f_J28_getFirstEntry (γ : GP) (x0 : Nat) (g : AH) : Option (Nat × AH) := gR g x0 70 fun v1 => (if v1 = 0 then (some (v1, g)) else f_J28_getFirstEntry_L9 γ  FU v1 g)
theorem f_J28_getFirstEntry_L9_w (γ : GP) (l : Launch) (hl : l.stackTraces = false) (G0 : AH) : ∀ (n : Nat) (x1 : Nat) (g : AH), AW ρR γ l ck_J28_getFirstEntry G0 9 [(1, .ref x1)] [] g (f_J28_getFirstEntry_L9 γ n x1 g) := by
  intro n
  induction n with
  | zero => intro x1 g; exact AW_none
  | succ n ih =>
    intro x1 g
    unfold f_J28_getFirstEntry_L9
    refine r_aload_n (pc := 9) dJ28_getFirstEntry_9 rfl 0 rfl ?_
    refine r_getR (f := 99) (pc := 10) dJ28_getFirstEntry_10 q1829 (Or.inl rfl) rfl (fun v2 => ?_)
    refine r_ifnull (tgt := 24) (pc := 13) dJ28_getFirstEntry_13 (by decide) ?_ ?_
    · skip
      refine r_aload_n (pc := 24) dJ28_getFirstEntry_24 rfl 0 rfl ?_
      exact r_aret (pc := 25) dJ28_getFirstEntry_25 rfl (by first | exact Or.inl ⟨_, rfl⟩ | exact Or.inr ⟨_, rfl⟩)
    · skip
      refine r_aload_n (pc := 16) dJ28_getFirstEntry_16 rfl 0 rfl ?_
      refine r_getR (f := 99) (pc := 17) dJ28_getFirstEntry_17 q1829 (Or.inl rfl) rfl (fun v3 => ?_)
      refine r_astore_n (pc := 20) dJ28_getFirstEntry_20 rfl (Nat.le_of_ble_eq_true rfl) rfl ?_
      refine r_goto (tgt := 9) (pc := 21) dJ28_getFirstEntry_21 (by decide) ?_
      exact ih v3 g
theorem t_J28_getFirstEntry (γ : GP) (l : Launch) (hl : l.stackTraces = false) (x0 : Nat) (g : AH) : TrM ρR γ l ⟨"java/util/TreeMap", "getFirstEntry", "()Ljava/util/TreeMap$Entry;"⟩ (ws_ ⟨"java/util/TreeMap", "getFirstEntry", "()Ljava/util/TreeMap$Entry;"⟩ prog_93_method_72_code 2 (some (.object "java/util/TreeMap$Entry"))) 1 [.ref x0] g (f_J28_getFirstEntry γ x0 g) := by
  refine TrM_of (plainFor_of_name (by decide)) (Nat.le_of_ble_eq_true rfl) ?_
  unfold f_J28_getFirstEntry
  change AW ρR γ l ck_J28_getFirstEntry g 0 [(0, .ref x0)] [] g _
  refine r_aload_n (pc := 0) dJ28_getFirstEntry_0 rfl 0 rfl ?_
  refine r_getR (f := 70) (pc := 1) dJ28_getFirstEntry_1 q1425 (Or.inl rfl) rfl (fun v1 => ?_)
  refine r_astore_n (pc := 4) dJ28_getFirstEntry_4 rfl (Nat.le_of_ble_eq_true rfl) rfl ?_
  refine r_aload_n (pc := 5) dJ28_getFirstEntry_5 rfl 0 rfl ?_
  refine r_ifnull (tgt := 24) (pc := 6) dJ28_getFirstEntry_6 (by decide) ?_ ?_
  · skip
    refine r_aload_n (pc := 24) dJ28_getFirstEntry_24 rfl 0 rfl ?_
    exact r_aret (pc := 25) dJ28_getFirstEntry_25 rfl (by first | exact Or.inl ⟨_, rfl⟩ | exact Or.inr ⟨_, rfl⟩)
  · skip
    refine AW_sub [0] rfl ?_
    refine f_J28_getFirstEntry_L9_w γ l hl _  FU v1 g
abbrev ck_J29_init : CK := ("java/util/TreeMap$PrivateEntryIterator", prog_100_method_1_code, 3, none, "<init>", [], 2)
def f_J29_init (γ : GP) (x0 : Nat) (x1 : Nat) (x2 : Nat) (g : AH) : Option (AH) := pR γ g x0 83 x1 fun g1 => (if x0 ≠ 0 then gI g1 x1 72 fun v2 => pI γ g1 x0 82 v2 fun g3 => pR γ g3 x0 81 0 fun g4 => pR γ g4 x0 80 x2 fun g5 => (some g5) else none)
theorem t_J29_init (γ : GP) (l : Launch) (hl : l.stackTraces = false) (x0 : Nat) (x1 : Nat) (x2 : Nat) (g : AH) : TrM ρV γ l ⟨"java/util/TreeMap$PrivateEntryIterator", "<init>", "(Ljava/util/TreeMap;Ljava/util/TreeMap$Entry;)V"⟩ (ws_ ⟨"java/util/TreeMap$PrivateEntryIterator", "<init>", "(Ljava/util/TreeMap;Ljava/util/TreeMap$Entry;)V"⟩ prog_100_method_1_code 3 none) 2 [.ref x0, .ref x1, .ref x2] g (f_J29_init γ x0 x1 x2 g) := by
  refine TrM_of (plainFor_of_name (by decide)) (Nat.le_of_ble_eq_true rfl) ?_
  unfold f_J29_init
  change AW ρV γ l ck_J29_init g 0 [(0, .ref x0), (1, .ref x1), (2, .ref x2)] [] g _
  refine r_aload_n (pc := 0) dJ29_init_0 rfl 0 rfl ?_
  refine r_aload_n (pc := 1) dJ29_init_1 rfl 1 rfl ?_
  refine r_putR (f := 83) (pc := 2) dJ29_init_2 q1118 (Or.inl rfl) (Or.inr ⟨rfl, rfl⟩) rfl (fun g1 => ?_)
  refine r_aload_n (pc := 5) dJ29_init_5 rfl 0 rfl ?_
  refine r_objInit (pc := 6) dJ29_init_6 q1114 q185 q186 (by decide) (Nat.le_of_ble_eq_true rfl) ?_
  refine r_aload_n (pc := 9) dJ29_init_9 rfl 0 rfl ?_
  refine r_aload_n (pc := 10) dJ29_init_10 rfl 1 rfl ?_
  refine r_getIN (f := 72) (pc := 11) dJ29_init_11 mv1427 rfl (fun v2 => ?_)
  refine r_putI (f := 82) (pc := 14) dJ29_init_14 q1117 (Or.inl rfl) (Or.inl rfl) rfl (fun g3 => ?_)
  refine r_aload_n (pc := 17) dJ29_init_17 rfl 0 rfl ?_
  refine r_null (pc := 18) dJ29_init_18 ?_
  refine r_putR (f := 81) (pc := 19) dJ29_init_19 q1116 (Or.inl rfl) (Or.inl rfl) rfl (fun g4 => ?_)
  refine r_aload_n (pc := 22) dJ29_init_22 rfl 0 rfl ?_
  refine r_aload_n (pc := 23) dJ29_init_23 rfl 2 rfl ?_
  refine r_putR (f := 80) (pc := 24) dJ29_init_24 q1115 (Or.inl rfl) (Or.inl rfl) rfl (fun g5 => ?_)
  exact r_vret (pc := 27) dJ29_init_27 rfl
abbrev ck_J31_init : CK := ("java/util/TreeMap$KeyIterator", prog_97_method_1_code, 3, none, "<init>", [], 3)
def f_J31_init (γ : GP) (x0 : Nat) (x1 : Nat) (x2 : Nat) (g : AH) : Option (AH) := bV ((if x0 ≠ 0 then f_J29_init γ x0 x1 x2 g else none)) fun g1 => (some g1)
theorem t_J31_init (γ : GP) (l : Launch) (hl : l.stackTraces = false) (x0 : Nat) (x1 : Nat) (x2 : Nat) (g : AH) : TrM ρV γ l ⟨"java/util/TreeMap$KeyIterator", "<init>", "(Ljava/util/TreeMap;Ljava/util/TreeMap$Entry;)V"⟩ (ws_ ⟨"java/util/TreeMap$KeyIterator", "<init>", "(Ljava/util/TreeMap;Ljava/util/TreeMap$Entry;)V"⟩ prog_97_method_1_code 3 none) 3 [.ref x0, .ref x1, .ref x2] g (f_J31_init γ x0 x1 x2 g) := by
  refine TrM_of (plainFor_of_name (by decide)) (Nat.le_of_ble_eq_true rfl) ?_
  unfold f_J31_init
  change AW ρV γ l ck_J31_init g 0 [(0, .ref x0), (1, .ref x1), (2, .ref x2)] [] g _
  refine r_aload_n (pc := 0) dJ31_init_0 rfl 0 rfl ?_
  refine r_aload_n (pc := 1) dJ31_init_1 rfl 1 rfl ?_
  refine r_aload_n (pc := 2) dJ31_init_2 rfl 2 rfl ?_
  refine r_cV (pc := 3) (rest := []) (RunOK_chk (fun h => run_I (n := 2) (As := [.ref x1, .ref x2]) (rest := []) (t_J29_init γ l hl x0 x1 x2 g) dJ31_init_3 q1145 q1112 q145 q1113 rfl (by decide +kernel) rfl h (Nat.le_of_ble_eq_true rfl) (Nat.le_of_ble_eq_true rfl) rfl (Nat.le_of_ble_eq_true rfl))) (fun g1 => ?_)
  exact r_vret (pc := 6) dJ31_init_6 rfl
abbrev ck_J28_keyIterator : CK := ("java/util/TreeMap", prog_93_method_65_code, 1, (some (.object "java/util/Iterator")), "keyIterator", [], 4)
def f_J28_keyIterator (γ : GP) (x0 : Nat) (g : AH) : Option (Nat × AH) := mO g 17 fun q1 g2 => bR ((if hK g2 x0 = 15 then f_J28_getFirstEntry γ x0 g2 else none)) fun v4 g3 => bV ((if q1 ≠ 0 then f_J31_init γ q1 x0 v4 g3 else none)) fun g5 => (some (q1, g5))
theorem t_J28_keyIterator (γ : GP) (l : Launch) (hl : l.stackTraces = false) (x0 : Nat) (g : AH) : TrM ρR γ l ⟨"java/util/TreeMap", "keyIterator", "()Ljava/util/Iterator;"⟩ (ws_ ⟨"java/util/TreeMap", "keyIterator", "()Ljava/util/Iterator;"⟩ prog_93_method_65_code 1 (some (.object "java/util/Iterator"))) 4 [.ref x0] g (f_J28_keyIterator γ x0 g) := by
  refine TrM_of (plainFor_of_name (by decide)) (Nat.le_of_ble_eq_true rfl) ?_
  unfold f_J28_keyIterator
  change AW ρR γ l ck_J28_keyIterator g 0 [(0, .ref x0)] [] g _
  refine r_new (c := 17) (pc := 0) dJ28_keyIterator_0 q1139 (by decide) (by decide) (fun q1 g2 => ?_)
  refine r_dup (pc := 3) dJ28_keyIterator_3 rfl ?_
  refine r_aload_n (pc := 4) dJ28_keyIterator_4 rfl 0 rfl ?_
  refine r_aload_n (pc := 5) dJ28_keyIterator_5 rfl 0 rfl ?_
  refine r_cR (pc := 6) (rest := [.ref x0, .ref q1, .ref q1]) (RunOK_chk (fun h => run_V (n := 0) (c9 := 15) (As := []) (rest := [.ref x0, .ref q1, .ref q1]) (t_J28_getFirstEntry γ l hl x0 g2) dJ28_keyIterator_6 q1141 q1105 q1106 q143 q1107 (by decide +kernel) rfl h ⟨rfl, by decide, by decide⟩ (Nat.le_of_ble_eq_true rfl) (Nat.le_of_ble_eq_true rfl) rfl (Nat.le_of_ble_eq_true rfl))) (fun v4 g3 => ?_)
  refine r_cV (pc := 9) (rest := [.ref q1]) (RunOK_chk (fun h => run_I (n := 2) (As := [.ref x0, .ref v4]) (rest := [.ref q1]) (t_J31_init γ l hl q1 x0 v4 g3) dJ28_keyIterator_9 q1142 q1143 q147 q1144 rfl (by decide +kernel) rfl h (Nat.le_of_ble_eq_true rfl) (Nat.le_of_ble_eq_true rfl) rfl (Nat.le_of_ble_eq_true rfl))) (fun g5 => ?_)
  exact r_aret (pc := 12) dJ28_keyIterator_12 rfl (by first | exact Or.inl ⟨_, rfl⟩ | exact Or.inr ⟨_, rfl⟩)
abbrev ck_J35_iterator : CK := ("java/util/TreeMap$KeySet", prog_98_method_2_code, 1, (some (.object "java/util/Iterator")), "iterator", [], 5)
def f_J35_iterator (γ : GP) (x0 : Nat) (g : AH) : Option (Nat × AH) := gR g x0 92 fun v1 => gInst g [15] [] v1 fun v2 => (if v2 = 0 then gR g x0 92 fun v3 => gC g [] v3 (none) else gR g x0 92 fun v4 => gC g [15] v4 (bR ((if hK g v4 = 15 then f_J28_keyIterator γ v4 g else none)) fun v6 g5 => (some (v6, g5))))
theorem t_J35_iterator (γ : GP) (l : Launch) (hl : l.stackTraces = false) (x0 : Nat) (g : AH) : TrM ρR γ l ⟨"java/util/TreeMap$KeySet", "iterator", "()Ljava/util/Iterator;"⟩ (ws_ ⟨"java/util/TreeMap$KeySet", "iterator", "()Ljava/util/Iterator;"⟩ prog_98_method_2_code 1 (some (.object "java/util/Iterator"))) 5 [.ref x0] g (f_J35_iterator γ x0 g) := by
  refine TrM_of (plainFor_of_name (by decide)) (Nat.le_of_ble_eq_true rfl) ?_
  unfold f_J35_iterator
  change AW ρR γ l ck_J35_iterator g 0 [(0, .ref x0)] [] g _
  refine r_aload_n (pc := 0) dJ35_iterator_0 rfl 0 rfl ?_
  refine r_getR (f := 92) (pc := 1) dJ35_iterator_1 q1485 (Or.inl rfl) rfl (fun v1 => ?_)
  refine r_inst (L1 := [15]) (L0 := []) (pc := 4) dJ35_iterator_4 q1134 (List.forall_mem_cons.mpr ⟨⟨by decide, by decide, Or.inl rfl⟩, (fun _ h => absurd h List.not_mem_nil)⟩) ((fun _ h => absurd h List.not_mem_nil)) (fun v2 => ?_)
  refine r_if_eq (tgt := 21) (pc := 7) dJ35_iterator_7 (by decide) ?_ ?_
  · skip
    refine r_aload_n (pc := 21) dJ35_iterator_21 rfl 0 rfl ?_
    refine r_getR (f := 92) (pc := 22) dJ35_iterator_22 q1485 (Or.inl rfl) rfl (fun v3 => ?_)
    refine r_cast_ (L := []) (pc := 25) dJ35_iterator_25 q1151 ((fun _ h => absurd h List.not_mem_nil)) ?_
    exact AW_none
  · skip
    refine r_aload_n (pc := 10) dJ35_iterator_10 rfl 0 rfl ?_
    refine r_getR (f := 92) (pc := 11) dJ35_iterator_11 q1485 (Or.inl rfl) rfl (fun v4 => ?_)
    refine r_cast_ (L := [15]) (pc := 14) dJ35_iterator_14 q1134 (List.forall_mem_cons.mpr ⟨⟨by decide, by decide, Or.inl rfl⟩, (fun _ h => absurd h List.not_mem_nil)⟩) ?_
    refine r_cR (pc := 17) (rest := []) (RunOK_chk (fun h => run_V (n := 0) (c9 := 15) (As := []) (rest := []) (t_J28_keyIterator γ l hl v4 g) dJ35_iterator_17 q1135 q1136 q1137 q143 q1138 (by decide +kernel) rfl h ⟨rfl, by decide, by decide⟩ (Nat.le_of_ble_eq_true rfl) (Nat.le_of_ble_eq_true rfl) rfl (Nat.le_of_ble_eq_true rfl))) (fun v6 g5 => ?_)
    exact r_aret (pc := 20) dJ35_iterator_20 rfl (by first | exact Or.inl ⟨_, rfl⟩ | exact Or.inr ⟨_, rfl⟩)
abbrev ck_J21_intValue : CK := ("java/lang/Integer", prog_40_method_27_code, 1, (some .int), "intValue", [], 1)
def f_J21_intValue (γ : GP) (x0 : Nat) (g : AH) : Option (Int32 × AH) := gI g x0 61 fun v1 => (some (v1, g))
theorem t_J21_intValue (γ : GP) (l : Launch) (hl : l.stackTraces = false) (x0 : Nat) (g : AH) : TrM ρI γ l ⟨"java/lang/Integer", "intValue", "()I"⟩ (ws_ ⟨"java/lang/Integer", "intValue", "()I"⟩ prog_40_method_27_code 1 (some .int)) 1 [.ref x0] g (f_J21_intValue γ x0 g) := by
  refine TrM_of (plainFor_of_name (by decide)) (Nat.le_of_ble_eq_true rfl) ?_
  unfold f_J21_intValue
  change AW ρI γ l ck_J21_intValue g 0 [(0, .ref x0)] [] g _
  refine r_aload_n (pc := 0) dJ21_intValue_0 rfl 0 rfl ?_
  refine r_getI (f := 61) (pc := 1) dJ21_intValue_1 q1518 (Or.inl rfl) rfl (fun v1 => ?_)
  exact r_iret (pc := 4) dJ21_intValue_4 rfl
abbrev ck_J20_init : CK := ("java/lang/Number", prog_45_method_1_code, 1, none, "<init>", [], 2)
def f_J20_init (γ : GP) (x0 : Nat) (g : AH) : Option (AH) := (if x0 ≠ 0 then (some g) else none)
theorem t_J20_init (γ : GP) (l : Launch) (hl : l.stackTraces = false) (x0 : Nat) (g : AH) : TrM ρV γ l ⟨"java/lang/Number", "<init>", "()V"⟩ (ws_ ⟨"java/lang/Number", "<init>", "()V"⟩ prog_45_method_1_code 1 none) 2 [.ref x0] g (f_J20_init γ x0 g) := by
  refine TrM_of (plainFor_of_name (by decide)) (Nat.le_of_ble_eq_true rfl) ?_
  unfold f_J20_init
  change AW ρV γ l ck_J20_init g 0 [(0, .ref x0)] [] g _
  refine r_aload_n (pc := 0) dJ20_init_0 rfl 0 rfl ?_
  refine r_objInit (pc := 1) dJ20_init_1 q1517 q185 q186 (by decide) (Nat.le_of_ble_eq_true rfl) ?_
  exact r_vret (pc := 4) dJ20_init_4 rfl
abbrev ck_J21_init : CK := ("java/lang/Integer", prog_40_method_23_code, 2, none, "<init>", [], 3)
def f_J21_init (γ : GP) (x0 : Nat) (x1 : Int32) (g : AH) : Option (AH) := bV ((if x0 ≠ 0 then f_J20_init γ x0 g else none)) fun g1 => pI γ g1 x0 61 x1 fun g2 => (some g2)
theorem t_J21_init (γ : GP) (l : Launch) (hl : l.stackTraces = false) (x0 : Nat) (x1 : Int32) (g : AH) : TrM ρV γ l ⟨"java/lang/Integer", "<init>", "(I)V"⟩ (ws_ ⟨"java/lang/Integer", "<init>", "(I)V"⟩ prog_40_method_23_code 2 none) 3 [.ref x0, .int x1] g (f_J21_init γ x0 x1 g) := by
  refine TrM_of (plainFor_of_name (by decide)) (Nat.le_of_ble_eq_true rfl) ?_
  unfold f_J21_init
  change AW ρV γ l ck_J21_init g 0 [(0, .ref x0), (1, .int x1)] [] g _
  refine r_aload_n (pc := 0) dJ21_init_0 rfl 0 rfl ?_
  refine r_cV (pc := 1) (rest := []) (RunOK_chk (fun h => run_I (n := 0) (As := []) (rest := []) (t_J20_init γ l hl x0 g) dJ21_init_1 q1514 q1515 q134 q1516 rfl (by decide +kernel) rfl h (Nat.le_of_ble_eq_true rfl) (Nat.le_of_ble_eq_true rfl) rfl (Nat.le_of_ble_eq_true rfl))) (fun g1 => ?_)
  refine r_aload_n (pc := 4) dJ21_init_4 rfl 0 rfl ?_
  refine r_iload_n (pc := 5) dJ21_init_5 rfl 1 rfl ?_
  refine r_putI (f := 61) (pc := 6) dJ21_init_6 q1518 (Or.inl rfl) (Or.inr ⟨rfl, rfl⟩) rfl (fun g2 => ?_)
  exact r_vret (pc := 9) dJ21_init_9 rfl
abbrev ck_J21_valueOf : CK := ("java/lang/Integer", prog_40_method_22_code, 1, (some (.object "java/lang/Integer")), "valueOf", [], 4)
def f_J21_valueOf (γ : GP) (x0 : Int32) (g : AH) : Option (Nat × AH) := jn (fun (g1 : AH) => mO g1 12 fun q3 g4 => bV ((if q3 ≠ 0 then f_J21_init γ q3 x0 g4 else none)) fun g5 => (some (q3, g5))) (fun (j2 : AH → Option (Nat × AH)) => (if x0 < (-128 : Int32) then j2 g else (if (127 : Int32) < x0 then j2 g else gQ g 107 (γ.1 9) (x0 + (128 : Int32)) fun v6 => (some (v6, g)))))
theorem t_J21_valueOf (γ : GP) (l : Launch) (hl : l.stackTraces = false) (x0 : Int32) (g : AH) : TrM ρR γ l ⟨"java/lang/Integer", "valueOf", "(I)Ljava/lang/Integer;"⟩ (ws_ ⟨"java/lang/Integer", "valueOf", "(I)Ljava/lang/Integer;"⟩ prog_40_method_22_code 1 (some (.object "java/lang/Integer"))) 4 [.int x0] g (f_J21_valueOf γ x0 g) := by
  refine TrM_of (plainFor_of_name (by decide)) (Nat.le_of_ble_eq_true rfl) ?_
  unfold f_J21_valueOf
  change AW ρR γ l ck_J21_valueOf g 0 [(0, .int x0)] [] g _
  refine r_iload_n (pc := 0) dJ21_valueOf_0 rfl 0 rfl ?_
  refine r_bipush (v := (-128 : Int32)) (pc := 1) dJ21_valueOf_1 (by decide) ?_
  refine AW_jn (P := fun (j : AH → Option (Nat × AH)) => ∀ (g1 : AH), AW ρR γ l ck_J21_valueOf g 23 [(0, .int x0)] [] g1 (j g1)) (fun g1 => ?_) (fun j2 h_j2 => ?_)
  · skip
    refine r_new (c := 12) (pc := 23) dJ21_valueOf_23 q1509 (by decide) (by decide) (fun q3 g4 => ?_)
    refine r_dup (pc := 26) dJ21_valueOf_26 rfl ?_
    refine r_iload_n (pc := 27) dJ21_valueOf_27 rfl 0 rfl ?_
    refine r_cV (pc := 28) (rest := [.ref q3]) (RunOK_chk (fun h => run_I (n := 1) (As := [.int x0]) (rest := [.ref q3]) (t_J21_init γ l hl q3 x0 g4) dJ21_valueOf_28 q1511 q1512 q135 q1513 rfl (by decide +kernel) rfl h (Nat.le_of_ble_eq_true rfl) (Nat.le_of_ble_eq_true rfl) rfl (Nat.le_of_ble_eq_true rfl))) (fun g5 => ?_)
    exact r_aret (pc := 31) dJ21_valueOf_31 rfl (by first | exact Or.inl ⟨_, rfl⟩ | exact Or.inr ⟨_, rfl⟩)
  · skip
    refine r_icmp_lt (tgt := 23) (pc := 3) dJ21_valueOf_3 (by decide) ?_ ?_
    · skip
      exact h_j2 g
    · skip
      refine r_iload_n (pc := 6) dJ21_valueOf_6 rfl 0 rfl ?_
      refine r_getsI (v := (127 : Int32)) (pc := 7) dJ21_valueOf_7 q1505 (List.mem_of_getElem? (i := 4) rfl) rfl ?_
      refine r_icmp_gt (tgt := 23) (pc := 10) dJ21_valueOf_10 (by decide) ?_ ?_
      · skip
        exact h_j2 g
      · skip
        refine r_gets (i := 9) (pc := 13) dJ21_valueOf_13 q1507 (List.mem_of_getElem? (i := 9) rfl) rfl ?_
        refine r_iload_n (pc := 16) dJ21_valueOf_16 rfl 0 rfl ?_
        refine r_sipush (v := (128 : Int32)) (pc := 17) dJ21_valueOf_17 (by decide) ?_
        refine r_iadd (pc := 20) dJ21_valueOf_20 ?_
        refine r_aald7 (pc := 21) dJ21_valueOf_21 (fun v6 => ?_)
        exact r_aret (pc := 22) dJ21_valueOf_22 rfl (by first | exact Or.inl ⟨_, rfl⟩ | exact Or.inr ⟨_, rfl⟩)
abbrev ck_J28_getEntryUsingComparator : CK := ("java/util/TreeMap", prog_93_method_16_code, 6, (some (.object "java/util/TreeMap$Entry")), "getEntryUsingComparator", [], 1)
def f_J28_getEntryUsingComparator (γ : GP) (x0 : Nat) (x1 : Nat) (g : AH) : Option (Nat × AH) := gR g x0 69 fun v1 => (if v1 = 0 then (some (0, g)) else gR g x0 70 fun v2 => (if v2 = 0 then (some (0, g)) else gR g v2 97 fun v3 => none))
theorem t_J28_getEntryUsingComparator (γ : GP) (l : Launch) (hl : l.stackTraces = false) (x0 : Nat) (x1 : Nat) (g : AH) : TrM ρR γ l ⟨"java/util/TreeMap", "getEntryUsingComparator", "(Ljava/lang/Object;)Ljava/util/TreeMap$Entry;"⟩ (ws_ ⟨"java/util/TreeMap", "getEntryUsingComparator", "(Ljava/lang/Object;)Ljava/util/TreeMap$Entry;"⟩ prog_93_method_16_code 6 (some (.object "java/util/TreeMap$Entry"))) 1 [.ref x0, .ref x1] g (f_J28_getEntryUsingComparator γ x0 x1 g) := by
  refine TrM_of (plainFor_of_name (by decide)) (Nat.le_of_ble_eq_true rfl) ?_
  unfold f_J28_getEntryUsingComparator
  change AW ρR γ l ck_J28_getEntryUsingComparator g 0 [(0, .ref x0), (1, .ref x1)] [] g _
  refine r_aload_n (pc := 0) dJ28_getEntryUsingComparator_0 rfl 1 rfl ?_
  refine r_astore_n (pc := 1) dJ28_getEntryUsingComparator_1 rfl (Nat.le_of_ble_eq_true rfl) rfl ?_
  refine r_aload_n (pc := 2) dJ28_getEntryUsingComparator_2 rfl 1 rfl ?_
  refine r_getR (f := 69) (pc := 3) dJ28_getEntryUsingComparator_3 q1424 (Or.inl rfl) rfl (fun v1 => ?_)
  refine r_astore_n (pc := 6) dJ28_getEntryUsingComparator_6 rfl (Nat.le_of_ble_eq_true rfl) rfl ?_
  refine r_aload_n (pc := 7) dJ28_getEntryUsingComparator_7 rfl 0 rfl ?_
  refine r_ifnull (tgt := 72) (pc := 8) dJ28_getEntryUsingComparator_8 (by decide) ?_ ?_
  · skip
    refine r_null (pc := 72) dJ28_getEntryUsingComparator_72 ?_
    exact r_aret (pc := 73) dJ28_getEntryUsingComparator_73 rfl (by first | exact Or.inl ⟨_, rfl⟩ | exact Or.inr ⟨_, rfl⟩)
  · skip
    refine r_aload_n (pc := 11) dJ28_getEntryUsingComparator_11 rfl 2 rfl ?_
    refine r_getR (f := 70) (pc := 12) dJ28_getEntryUsingComparator_12 q1425 (Or.inl rfl) rfl (fun v2 => ?_)
    refine r_astore (pc := 15) dJ28_getEntryUsingComparator_15 (Nat.le_of_ble_eq_true rfl) rfl ?_
    refine r_aload (pc := 17) dJ28_getEntryUsingComparator_17 0 rfl ?_
    refine r_ifnull (tgt := 72) (pc := 19) dJ28_getEntryUsingComparator_19 (by decide) ?_ ?_
    · skip
      refine r_null (pc := 72) dJ28_getEntryUsingComparator_72 ?_
      exact r_aret (pc := 73) dJ28_getEntryUsingComparator_73 rfl (by first | exact Or.inl ⟨_, rfl⟩ | exact Or.inr ⟨_, rfl⟩)
    · skip
      refine r_aload_n (pc := 22) dJ28_getEntryUsingComparator_22 rfl 1 rfl ?_
      refine r_aload_n (pc := 23) dJ28_getEntryUsingComparator_23 rfl 2 rfl ?_
      refine r_aload (pc := 24) dJ28_getEntryUsingComparator_24 0 rfl ?_
      refine r_getR (f := 97) (pc := 26) dJ28_getEntryUsingComparator_26 q1825 (Or.inl rfl) rfl (fun v3 => ?_)
      exact AW_none
abbrev ck_J25_requireNonNull : CK := ("java/util/Objects", prog_84_method_10_code, 1, (some (.object "java/lang/Object")), "requireNonNull", [], 1)
def f_J25_requireNonNull (γ : GP) (x0 : Nat) (g : AH) : Option (Nat × AH) := (if x0 = 0 then none else (some (x0, g)))
theorem t_J25_requireNonNull (γ : GP) (l : Launch) (hl : l.stackTraces = false) (x0 : Nat) (g : AH) : TrM ρR γ l ⟨"java/util/Objects", "requireNonNull", "(Ljava/lang/Object;)Ljava/lang/Object;"⟩ (ws_ ⟨"java/util/Objects", "requireNonNull", "(Ljava/lang/Object;)Ljava/lang/Object;"⟩ prog_84_method_10_code 1 (some (.object "java/lang/Object"))) 1 [.ref x0] g (f_J25_requireNonNull γ x0 g) := by
  refine TrM_of (plainFor_of_name (by decide)) (Nat.le_of_ble_eq_true rfl) ?_
  unfold f_J25_requireNonNull
  change AW ρR γ l ck_J25_requireNonNull g 0 [(0, .ref x0)] [] g _
  refine r_aload_n (pc := 0) dJ25_requireNonNull_0 rfl 0 rfl ?_
  refine r_ifnonnull (tgt := 12) (pc := 1) dJ25_requireNonNull_1 (by decide) ?_ ?_
  · skip
    exact AW_none
  · skip
    refine r_aload_n (pc := 12) dJ25_requireNonNull_12 rfl 0 rfl ?_
    exact r_aret (pc := 13) dJ25_requireNonNull_13 rfl (by first | exact Or.inl ⟨_, rfl⟩ | exact Or.inr ⟨_, rfl⟩)
abbrev ck_J21_compare : CK := ("java/lang/Integer", prog_40_method_40_code, 2, (some .int), "compare", [], 1)
def f_J21_compare (γ : GP) (x0 : Int32) (x1 : Int32) (g : AH) : Option (Int32 × AH) := (if x1 ≤ x0 then (if x0 = x1 then (some ((0 : Int32), g)) else (some ((1 : Int32), g))) else (some ((-1 : Int32), g)))
theorem t_J21_compare (γ : GP) (l : Launch) (hl : l.stackTraces = false) (x0 : Int32) (x1 : Int32) (g : AH) : TrM ρI γ l ⟨"java/lang/Integer", "compare", "(II)I"⟩ (ws_ ⟨"java/lang/Integer", "compare", "(II)I"⟩ prog_40_method_40_code 2 (some .int)) 1 [.int x0, .int x1] g (f_J21_compare γ x0 x1 g) := by
  refine TrM_of (plainFor_of_name (by decide)) (Nat.le_of_ble_eq_true rfl) ?_
  unfold f_J21_compare
  change AW ρI γ l ck_J21_compare g 0 [(0, .int x0), (1, .int x1)] [] g _
  refine r_iload_n (pc := 0) dJ21_compare_0 rfl 0 rfl ?_
  refine r_iload_n (pc := 1) dJ21_compare_1 rfl 1 rfl ?_
  refine r_icmp_ge (tgt := 9) (pc := 2) dJ21_compare_2 (by decide) ?_ ?_
  · skip
    refine r_iload_n (pc := 9) dJ21_compare_9 rfl 0 rfl ?_
    refine r_iload_n (pc := 10) dJ21_compare_10 rfl 1 rfl ?_
    refine r_icmp_ne (tgt := 18) (pc := 11) dJ21_compare_11 (by decide) ?_ ?_
    · skip
      refine r_iconst (v := (0 : Int32)) (pc := 14) dJ21_compare_14 (by decide) ?_
      refine r_goto (tgt := 19) (pc := 15) dJ21_compare_15 (by decide) ?_
      exact r_iret (pc := 19) dJ21_compare_19 rfl
    · skip
      refine r_iconst (v := (1 : Int32)) (pc := 18) dJ21_compare_18 (by decide) ?_
      exact r_iret (pc := 19) dJ21_compare_19 rfl
  · skip
    refine r_iconst (v := (-1 : Int32)) (pc := 5) dJ21_compare_5 (by decide) ?_
    refine r_goto (tgt := 19) (pc := 6) dJ21_compare_6 (by decide) ?_
    exact r_iret (pc := 19) dJ21_compare_19 rfl
abbrev ck_J21_compareTo_2 : CK := ("java/lang/Integer", prog_40_method_39_code, 2, (some .int), "compareTo", [], 2)
def f_J21_compareTo_2 (γ : GP) (x0 : Nat) (x1 : Nat) (g : AH) : Option (Int32 × AH) := gI g x0 61 fun v1 => gI g x1 61 fun v2 => bI (f_J21_compare γ v1 v2 g) fun v4 g3 => (some (v4, g3))
theorem t_J21_compareTo_2 (γ : GP) (l : Launch) (hl : l.stackTraces = false) (x0 : Nat) (x1 : Nat) (g : AH) : TrM ρI γ l ⟨"java/lang/Integer", "compareTo", "(Ljava/lang/Integer;)I"⟩ (ws_ ⟨"java/lang/Integer", "compareTo", "(Ljava/lang/Integer;)I"⟩ prog_40_method_39_code 2 (some .int)) 2 [.ref x0, .ref x1] g (f_J21_compareTo_2 γ x0 x1 g) := by
  refine TrM_of (plainFor_of_name (by decide)) (Nat.le_of_ble_eq_true rfl) ?_
  unfold f_J21_compareTo_2
  change AW ρI γ l ck_J21_compareTo_2 g 0 [(0, .ref x0), (1, .ref x1)] [] g _
  refine r_aload_n (pc := 0) dJ21_compareTo_2_0 rfl 0 rfl ?_
  refine r_getI (f := 61) (pc := 1) dJ21_compareTo_2_1 q1518 (Or.inl rfl) rfl (fun v1 => ?_)
  refine r_aload_n (pc := 4) dJ21_compareTo_2_4 rfl 1 rfl ?_
  refine r_getI (f := 61) (pc := 5) dJ21_compareTo_2_5 q1518 (Or.inl rfl) rfl (fun v2 => ?_)
  refine r_cI (pc := 8) (rest := []) (run_S (n := 2) (As := [.int v1, .int v2]) (rest := []) (t_J21_compare γ l hl v1 v2 g) dJ21_compareTo_2_8 q1594 q1595 q135 q1596 (by decide +kernel) rfl (Nat.le_of_ble_eq_true rfl) (Nat.le_of_ble_eq_true rfl) rfl (Nat.le_of_ble_eq_true rfl)) (fun v4 g3 => ?_)
  exact r_iret (pc := 11) dJ21_compareTo_2_11 rfl
abbrev ck_J21_compareTo : CK := ("java/lang/Integer", prog_40_method_63_code, 2, (some .int), "compareTo", [], 3)
def f_J21_compareTo (γ : GP) (x0 : Nat) (x1 : Nat) (g : AH) : Option (Int32 × AH) := gC g [12] x1 (bI ((if hK g x0 = 12 then f_J21_compareTo_2 γ x0 x1 g else none)) fun v2 g1 => (some (v2, g1)))
theorem t_J21_compareTo (γ : GP) (l : Launch) (hl : l.stackTraces = false) (x0 : Nat) (x1 : Nat) (g : AH) : TrM ρI γ l ⟨"java/lang/Integer", "compareTo", "(Ljava/lang/Object;)I"⟩ (ws_ ⟨"java/lang/Integer", "compareTo", "(Ljava/lang/Object;)I"⟩ prog_40_method_63_code 2 (some .int)) 3 [.ref x0, .ref x1] g (f_J21_compareTo γ x0 x1 g) := by
  refine TrM_of (plainFor_of_name (by decide)) (Nat.le_of_ble_eq_true rfl) ?_
  unfold f_J21_compareTo
  change AW ρI γ l ck_J21_compareTo g 0 [(0, .ref x0), (1, .ref x1)] [] g _
  refine r_aload_n (pc := 0) dJ21_compareTo_0 rfl 0 rfl ?_
  refine r_aload_n (pc := 1) dJ21_compareTo_1 rfl 1 rfl ?_
  refine r_cast_ (L := [12]) (pc := 2) dJ21_compareTo_2 q1509 (List.forall_mem_cons.mpr ⟨⟨by decide, by decide, Or.inl rfl⟩, (fun _ h => absurd h List.not_mem_nil)⟩) ?_
  refine r_cI (pc := 5) (rest := []) (RunOK_chk (fun h => run_V (n := 1) (c9 := 12) (As := [.ref x1]) (rest := []) (t_J21_compareTo_2 γ l hl x0 x1 g) dJ21_compareTo_5 q1590 q1591 q1592 q135 q1593 (by decide +kernel) rfl h ⟨rfl, by decide, by decide⟩ (Nat.le_of_ble_eq_true rfl) (Nat.le_of_ble_eq_true rfl) rfl (Nat.le_of_ble_eq_true rfl))) (fun v2 g1 => ?_)
  exact r_iret (pc := 8) dJ21_compareTo_8 rfl
abbrev ck_J28_getEntry : CK := ("java/util/TreeMap", prog_93_method_15_code, 5, (some (.object "java/util/TreeMap$Entry")), "getEntry", [], 4)
def f_J28_getEntry_L28 (γ : GP) (x2 : Nat) : Nat → Nat → AH → Option (Nat × AH)
  | 0, _, _ => none
  | n + 1, x3, g => (if x3 = 0 then (some (0, g)) else gR g x3 97 fun v5 => bI ((if hK g x2 = 12 then f_J21_compareTo γ x2 v5 g else none)) fun v7 g6 => (if 0 ≤ v7 then (if v7 ≤ 0 then (some (x3, g6)) else gR g6 x3 100 fun v8 => f_J28_getEntry_L28 γ x2 n v8 g6) else gR g6 x3 99 fun v9 => f_J28_getEntry_L28 γ x2 n v9 g6))
def f_J28_getEntry (γ : GP) (x0 : Nat) (x1 : Nat) (g : AH) : Option (Nat × AH) := gR g x0 69 fun v1 => (if v1 = 0 then bR (f_J25_requireNonNull γ x1 g) fun v3 g2 => gC g2 [6, 7, 12, 37, 38, 39, 40, 41] x1 (gR g2 x0 70 fun v4 => f_J28_getEntry_L28 γ x1 FU v4 g2) else bR ((if hK g x0 = 15 then f_J28_getEntryUsingComparator γ x0 x1 g else none)) fun v11 g10 => (some (v11, g10)))
theorem f_J28_getEntry_L28_w (γ : GP) (l : Launch) (hl : l.stackTraces = false) (G0 : AH) (x2 : Nat) : ∀ (n : Nat) (x3 : Nat) (g : AH), AW ρR γ l ck_J28_getEntry G0 28 [(2, .ref x2), (3, .ref x3)] [] g (f_J28_getEntry_L28 γ x2 n x3 g) := by
  intro n
  induction n with
  | zero => intro x3 g; exact AW_none
  | succ n ih =>
    intro x3 g
    unfold f_J28_getEntry_L28
    refine r_aload_n (pc := 28) dJ28_getEntry_28 rfl 1 rfl ?_
    refine r_ifnull (tgt := 75) (pc := 29) dJ28_getEntry_29 (by decide) ?_ ?_
    · skip
      refine r_null (pc := 75) dJ28_getEntry_75 ?_
      exact r_aret (pc := 76) dJ28_getEntry_76 rfl (by first | exact Or.inl ⟨_, rfl⟩ | exact Or.inr ⟨_, rfl⟩)
    · skip
      refine r_aload_n (pc := 32) dJ28_getEntry_32 rfl 0 rfl ?_
      refine r_aload_n (pc := 33) dJ28_getEntry_33 rfl 1 rfl ?_
      refine r_getR (f := 97) (pc := 34) dJ28_getEntry_34 q1825 (Or.inl rfl) rfl (fun v5 => ?_)
      refine r_cI (pc := 37) (rest := []) (RunOK_chk (fun h => run_F (n := 1) (c9 := 12) (As := [.ref v5]) (rest := []) (t_J21_compareTo γ l hl x2 v5 g) dJ28_getEntry_37 q1543 q1585 q1587 q135 q1589 (by decide +kernel) (by decide +kernel) rfl h ⟨by decide, by decide⟩ (Nat.le_of_ble_eq_true rfl) (Nat.le_of_ble_eq_true rfl) rfl (Nat.le_of_ble_eq_true rfl))) (fun v7 g6 => ?_)
      refine r_istore (pc := 42) dJ28_getEntry_42 (Nat.le_of_ble_eq_true rfl) rfl ?_
      refine r_iload (pc := 44) dJ28_getEntry_44 0 rfl ?_
      refine r_if_ge (tgt := 57) (pc := 46) dJ28_getEntry_46 (by decide) ?_ ?_
      · skip
        refine r_iload (pc := 57) dJ28_getEntry_57 0 rfl ?_
        refine r_if_le (tgt := 70) (pc := 59) dJ28_getEntry_59 (by decide) ?_ ?_
        · skip
          refine r_aload_n (pc := 70) dJ28_getEntry_70 rfl 2 rfl ?_
          exact r_aret (pc := 71) dJ28_getEntry_71 rfl (by first | exact Or.inl ⟨_, rfl⟩ | exact Or.inr ⟨_, rfl⟩)
        · skip
          refine r_aload_n (pc := 62) dJ28_getEntry_62 rfl 2 rfl ?_
          refine r_getR (f := 100) (pc := 63) dJ28_getEntry_63 q1830 (Or.inl rfl) rfl (fun v8 => ?_)
          refine r_astore_n (pc := 66) dJ28_getEntry_66 rfl (Nat.le_of_ble_eq_true rfl) rfl ?_
          refine r_goto (tgt := 72) (pc := 67) dJ28_getEntry_67 (by decide) ?_
          refine r_goto (tgt := 28) (pc := 72) dJ28_getEntry_72 (by decide) ?_
          refine AW_sub [2, 0] rfl ?_
          exact ih v8 g6
      · skip
        refine r_aload_n (pc := 49) dJ28_getEntry_49 rfl 2 rfl ?_
        refine r_getR (f := 99) (pc := 50) dJ28_getEntry_50 q1829 (Or.inl rfl) rfl (fun v9 => ?_)
        refine r_astore_n (pc := 53) dJ28_getEntry_53 rfl (Nat.le_of_ble_eq_true rfl) rfl ?_
        refine r_goto (tgt := 72) (pc := 54) dJ28_getEntry_54 (by decide) ?_
        refine r_goto (tgt := 28) (pc := 72) dJ28_getEntry_72 (by decide) ?_
        refine AW_sub [2, 0] rfl ?_
        exact ih v9 g6
theorem t_J28_getEntry (γ : GP) (l : Launch) (hl : l.stackTraces = false) (x0 : Nat) (x1 : Nat) (g : AH) : TrM ρR γ l ⟨"java/util/TreeMap", "getEntry", "(Ljava/lang/Object;)Ljava/util/TreeMap$Entry;"⟩ (ws_ ⟨"java/util/TreeMap", "getEntry", "(Ljava/lang/Object;)Ljava/util/TreeMap$Entry;"⟩ prog_93_method_15_code 5 (some (.object "java/util/TreeMap$Entry"))) 4 [.ref x0, .ref x1] g (f_J28_getEntry γ x0 x1 g) := by
  refine TrM_of (plainFor_of_name (by decide)) (Nat.le_of_ble_eq_true rfl) ?_
  unfold f_J28_getEntry
  change AW ρR γ l ck_J28_getEntry g 0 [(0, .ref x0), (1, .ref x1)] [] g _
  refine r_aload_n (pc := 0) dJ28_getEntry_0 rfl 0 rfl ?_
  refine r_getR (f := 69) (pc := 1) dJ28_getEntry_1 q1424 (Or.inl rfl) rfl (fun v1 => ?_)
  refine r_ifnull (tgt := 13) (pc := 4) dJ28_getEntry_4 (by decide) ?_ ?_
  · skip
    refine r_aload_n (pc := 13) dJ28_getEntry_13 rfl 1 rfl ?_
    refine r_cR (pc := 14) (rest := []) (run_S (n := 1) (As := [.ref x1]) (rest := []) (t_J25_requireNonNull γ l hl x1 g) dJ28_getEntry_14 q1538 q1539 q140 q1540 (by decide +kernel) rfl (Nat.le_of_ble_eq_true rfl) (Nat.le_of_ble_eq_true rfl) rfl (Nat.le_of_ble_eq_true rfl)) (fun v3 g2 => ?_)
    refine r_pop (pc := 17) dJ28_getEntry_17 rfl ?_
    refine r_aload_n (pc := 18) dJ28_getEntry_18 rfl 1 rfl ?_
    refine r_cast_ (L := [6, 7, 12, 37, 38, 39, 40, 41]) (pc := 19) dJ28_getEntry_19 q1541 (List.forall_mem_cons.mpr ⟨⟨by decide, by decide, Or.inr mv1744⟩, List.forall_mem_cons.mpr ⟨⟨by decide, by decide, Or.inr mv1597⟩, List.forall_mem_cons.mpr ⟨⟨by decide, by decide, Or.inr mv1584⟩, List.forall_mem_cons.mpr ⟨⟨by decide, by decide, Or.inr mv1546⟩, List.forall_mem_cons.mpr ⟨⟨by decide, by decide, Or.inr mv1572⟩, List.forall_mem_cons.mpr ⟨⟨by decide, by decide, Or.inr mv1575⟩, List.forall_mem_cons.mpr ⟨⟨by decide, by decide, Or.inr mv1578⟩, List.forall_mem_cons.mpr ⟨⟨by decide, by decide, Or.inr mv1581⟩, (fun _ h => absurd h List.not_mem_nil)⟩⟩⟩⟩⟩⟩⟩⟩) ?_
    refine r_astore_n (pc := 22) dJ28_getEntry_22 rfl (Nat.le_of_ble_eq_true rfl) rfl ?_
    refine r_aload_n (pc := 23) dJ28_getEntry_23 rfl 1 rfl ?_
    refine r_getR (f := 70) (pc := 24) dJ28_getEntry_24 q1425 (Or.inl rfl) rfl (fun v4 => ?_)
    refine r_astore_n (pc := 27) dJ28_getEntry_27 rfl (Nat.le_of_ble_eq_true rfl) rfl ?_
    refine AW_sub [1, 0] rfl ?_
    refine f_J28_getEntry_L28_w γ l hl _ x1 FU v4 g2
  · skip
    refine r_aload_n (pc := 7) dJ28_getEntry_7 rfl 0 rfl ?_
    refine r_aload_n (pc := 8) dJ28_getEntry_8 rfl 1 rfl ?_
    refine r_cR (pc := 9) (rest := []) (RunOK_chk (fun h => run_V (n := 1) (c9 := 15) (As := [.ref x1]) (rest := []) (t_J28_getEntryUsingComparator γ l hl x0 x1 g) dJ28_getEntry_9 q1530 q1531 q1532 q143 q1533 (by decide +kernel) rfl h ⟨rfl, by decide, by decide⟩ (Nat.le_of_ble_eq_true rfl) (Nat.le_of_ble_eq_true rfl) rfl (Nat.le_of_ble_eq_true rfl))) (fun v11 g10 => ?_)
    exact r_aret (pc := 12) dJ28_getEntry_12 rfl (by first | exact Or.inl ⟨_, rfl⟩ | exact Or.inr ⟨_, rfl⟩)
abbrev ck_J28_get : CK := ("java/util/TreeMap", prog_93_method_8_code, 3, (some (.object "java/lang/Object")), "get", [], 5)
def f_J28_get (γ : GP) (x0 : Nat) (x1 : Nat) (g : AH) : Option (Nat × AH) := bR ((if hK g x0 = 15 then f_J28_getEntry γ x0 x1 g else none)) fun v2 g1 => (if v2 = 0 then (some (0, g1)) else gR g1 v2 98 fun v3 => (some (v3, g1)))
theorem t_J28_get (γ : GP) (l : Launch) (hl : l.stackTraces = false) (x0 : Nat) (x1 : Nat) (g : AH) : TrM ρR γ l ⟨"java/util/TreeMap", "get", "(Ljava/lang/Object;)Ljava/lang/Object;"⟩ (ws_ ⟨"java/util/TreeMap", "get", "(Ljava/lang/Object;)Ljava/lang/Object;"⟩ prog_93_method_8_code 3 (some (.object "java/lang/Object"))) 5 [.ref x0, .ref x1] g (f_J28_get γ x0 x1 g) := by
  refine TrM_of (plainFor_of_name (by decide)) (Nat.le_of_ble_eq_true rfl) ?_
  unfold f_J28_get
  change AW ρR γ l ck_J28_get g 0 [(0, .ref x0), (1, .ref x1)] [] g _
  refine r_aload_n (pc := 0) dJ28_get_0 rfl 0 rfl ?_
  refine r_aload_n (pc := 1) dJ28_get_1 rfl 1 rfl ?_
  refine r_cR (pc := 2) (rest := []) (RunOK_chk (fun h => run_V (n := 1) (c9 := 15) (As := [.ref x1]) (rest := []) (t_J28_getEntry γ l hl x0 x1 g) dJ28_get_2 q1526 q1527 q1528 q143 q1529 (by decide +kernel) rfl h ⟨rfl, by decide, by decide⟩ (Nat.le_of_ble_eq_true rfl) (Nat.le_of_ble_eq_true rfl) rfl (Nat.le_of_ble_eq_true rfl))) (fun v2 g1 => ?_)
  refine r_astore_n (pc := 5) dJ28_get_5 rfl (Nat.le_of_ble_eq_true rfl) rfl ?_
  refine r_aload_n (pc := 6) dJ28_get_6 rfl 0 rfl ?_
  refine r_ifnonnull (tgt := 14) (pc := 7) dJ28_get_7 (by decide) ?_ ?_
  · skip
    refine r_null (pc := 10) dJ28_get_10 ?_
    refine r_goto (tgt := 18) (pc := 11) dJ28_get_11 (by decide) ?_
    exact r_aret (pc := 18) dJ28_get_18 rfl (by first | exact Or.inl ⟨_, rfl⟩ | exact Or.inr ⟨_, rfl⟩)
  · skip
    refine r_aload_n (pc := 14) dJ28_get_14 rfl 0 rfl ?_
    refine r_getR (f := 98) (pc := 15) dJ28_get_15 q1828 (Or.inl rfl) rfl (fun v3 => ?_)
    exact r_aret (pc := 18) dJ28_get_18 rfl (by first | exact Or.inl ⟨_, rfl⟩ | exact Or.inr ⟨_, rfl⟩)
abbrev ck_J28_compare : CK := ("java/util/TreeMap", prog_93_method_67_code, 3, (some .int), "compare", [], 4)
def f_J28_compare (γ : GP) (x0 : Nat) (x1 : Nat) (x2 : Nat) (g : AH) : Option (Int32 × AH) := gR g x0 69 fun v1 => (if v1 = 0 then gC g [6, 7, 12, 37, 38, 39, 40, 41] x1 (bI ((if hK g x1 = 12 then f_J21_compareTo γ x1 x2 g else none)) fun v3 g2 => (some (v3, g2))) else gR g x0 69 fun v4 => none)
theorem t_J28_compare (γ : GP) (l : Launch) (hl : l.stackTraces = false) (x0 : Nat) (x1 : Nat) (x2 : Nat) (g : AH) : TrM ρI γ l ⟨"java/util/TreeMap", "compare", "(Ljava/lang/Object;Ljava/lang/Object;)I"⟩ (ws_ ⟨"java/util/TreeMap", "compare", "(Ljava/lang/Object;Ljava/lang/Object;)I"⟩ prog_93_method_67_code 3 (some .int)) 4 [.ref x0, .ref x1, .ref x2] g (f_J28_compare γ x0 x1 x2 g) := by
  refine TrM_of (plainFor_of_name (by decide)) (Nat.le_of_ble_eq_true rfl) ?_
  unfold f_J28_compare
  change AW ρI γ l ck_J28_compare g 0 [(0, .ref x0), (1, .ref x1), (2, .ref x2)] [] g _
  refine r_aload_n (pc := 0) dJ28_compare_0 rfl 0 rfl ?_
  refine r_getR (f := 69) (pc := 1) dJ28_compare_1 q1424 (Or.inl rfl) rfl (fun v1 => ?_)
  refine r_ifnonnull (tgt := 20) (pc := 4) dJ28_compare_4 (by decide) ?_ ?_
  · skip
    refine r_aload_n (pc := 7) dJ28_compare_7 rfl 1 rfl ?_
    refine r_cast_ (L := [6, 7, 12, 37, 38, 39, 40, 41]) (pc := 8) dJ28_compare_8 q1541 (List.forall_mem_cons.mpr ⟨⟨by decide, by decide, Or.inr mv1744⟩, List.forall_mem_cons.mpr ⟨⟨by decide, by decide, Or.inr mv1597⟩, List.forall_mem_cons.mpr ⟨⟨by decide, by decide, Or.inr mv1584⟩, List.forall_mem_cons.mpr ⟨⟨by decide, by decide, Or.inr mv1546⟩, List.forall_mem_cons.mpr ⟨⟨by decide, by decide, Or.inr mv1572⟩, List.forall_mem_cons.mpr ⟨⟨by decide, by decide, Or.inr mv1575⟩, List.forall_mem_cons.mpr ⟨⟨by decide, by decide, Or.inr mv1578⟩, List.forall_mem_cons.mpr ⟨⟨by decide, by decide, Or.inr mv1581⟩, (fun _ h => absurd h List.not_mem_nil)⟩⟩⟩⟩⟩⟩⟩⟩) ?_
    refine r_aload_n (pc := 11) dJ28_compare_11 rfl 2 rfl ?_
    refine r_cI (pc := 12) (rest := []) (RunOK_chk (fun h => run_F (n := 1) (c9 := 12) (As := [.ref x2]) (rest := []) (t_J21_compareTo γ l hl x1 x2 g) dJ28_compare_12 q1543 q1585 q1587 q135 q1589 (by decide +kernel) (by decide +kernel) rfl h ⟨by decide, by decide⟩ (Nat.le_of_ble_eq_true rfl) (Nat.le_of_ble_eq_true rfl) rfl (Nat.le_of_ble_eq_true rfl))) (fun v3 g2 => ?_)
    refine r_goto (tgt := 31) (pc := 17) dJ28_compare_17 (by decide) ?_
    exact r_iret (pc := 31) dJ28_compare_31 rfl
  · skip
    refine r_aload_n (pc := 20) dJ28_compare_20 rfl 0 rfl ?_
    refine r_getR (f := 69) (pc := 21) dJ28_compare_21 q1424 (Or.inl rfl) rfl (fun v4 => ?_)
    refine r_aload_n (pc := 24) dJ28_compare_24 rfl 1 rfl ?_
    refine r_aload_n (pc := 25) dJ28_compare_25 rfl 2 rfl ?_
    exact AW_none
abbrev ck_J39_init : CK := ("java/util/TreeMap$Entry", prog_94_method_1_code, 4, none, "<init>", [], 2)
def f_J39_init (γ : GP) (x0 : Nat) (x1 : Nat) (x2 : Nat) (x3 : Nat) (g : AH) : Option (AH) := (if x0 ≠ 0 then pI γ g x0 102 (1 : Int32) fun g1 => pR γ g1 x0 97 x1 fun g2 => pR γ g2 x0 98 x2 fun g3 => pR γ g3 x0 101 x3 fun g4 => (some g4) else none)
theorem t_J39_init (γ : GP) (l : Launch) (hl : l.stackTraces = false) (x0 : Nat) (x1 : Nat) (x2 : Nat) (x3 : Nat) (g : AH) : TrM ρV γ l ⟨"java/util/TreeMap$Entry", "<init>", "(Ljava/lang/Object;Ljava/lang/Object;Ljava/util/TreeMap$Entry;)V"⟩ (ws_ ⟨"java/util/TreeMap$Entry", "<init>", "(Ljava/lang/Object;Ljava/lang/Object;Ljava/util/TreeMap$Entry;)V"⟩ prog_94_method_1_code 4 none) 2 [.ref x0, .ref x1, .ref x2, .ref x3] g (f_J39_init γ x0 x1 x2 x3 g) := by
  refine TrM_of (plainFor_of_name (by decide)) (Nat.le_of_ble_eq_true rfl) ?_
  unfold f_J39_init
  change AW ρV γ l ck_J39_init g 0 [(0, .ref x0), (1, .ref x1), (2, .ref x2), (3, .ref x3)] [] g _
  refine r_aload_n (pc := 0) dJ39_init_0 rfl 0 rfl ?_
  refine r_objInit (pc := 1) dJ39_init_1 q1822 q185 q186 (by decide) (Nat.le_of_ble_eq_true rfl) ?_
  refine r_aload_n (pc := 4) dJ39_init_4 rfl 0 rfl ?_
  refine r_iconst (v := (1 : Int32)) (pc := 5) dJ39_init_5 (by decide) ?_
  refine r_putI (f := 102) (pc := 6) dJ39_init_6 q1833 (Or.inl rfl) (Or.inl rfl) rfl (fun g1 => ?_)
  refine r_aload_n (pc := 9) dJ39_init_9 rfl 0 rfl ?_
  refine r_aload_n (pc := 10) dJ39_init_10 rfl 1 rfl ?_
  refine r_putR (f := 97) (pc := 11) dJ39_init_11 q1823 (Or.inl rfl) (Or.inl rfl) rfl (fun g2 => ?_)
  refine r_aload_n (pc := 14) dJ39_init_14 rfl 0 rfl ?_
  refine r_aload_n (pc := 15) dJ39_init_15 rfl 2 rfl ?_
  refine r_putR (f := 98) (pc := 16) dJ39_init_16 q1826 (Or.inl rfl) (Or.inl rfl) rfl (fun g3 => ?_)
  refine r_aload_n (pc := 19) dJ39_init_19 rfl 0 rfl ?_
  refine r_aload_n (pc := 20) dJ39_init_20 rfl 3 rfl ?_
  refine r_putR (f := 101) (pc := 21) dJ39_init_21 q1831 (Or.inl rfl) (Or.inl rfl) rfl (fun g4 => ?_)
  exact r_vret (pc := 24) dJ39_init_24 rfl
abbrev ck_J28_addEntryToEmptyMap : CK := ("java/util/TreeMap", prog_93_method_30_code, 3, none, "addEntryToEmptyMap", [], 5)
def f_J28_addEntryToEmptyMap (γ : GP) (x0 : Nat) (x1 : Nat) (x2 : Nat) (g : AH) : Option (AH) := bI ((if hK g x0 = 15 then f_J28_compare γ x0 x1 x1 g else none)) fun v2 g1 => mO g1 23 fun q3 g4 => bV ((if q3 ≠ 0 then f_J39_init γ q3 x1 x2 0 g4 else none)) fun g5 => pR γ g5 x0 70 q3 fun g6 => pI γ g6 x0 71 (1 : Int32) fun g7 => gI g7 x0 72 fun v8 => pI γ g7 x0 72 (v8 + (1 : Int32)) fun g9 => (some g9)
theorem t_J28_addEntryToEmptyMap (γ : GP) (l : Launch) (hl : l.stackTraces = false) (x0 : Nat) (x1 : Nat) (x2 : Nat) (g : AH) : TrM ρV γ l ⟨"java/util/TreeMap", "addEntryToEmptyMap", "(Ljava/lang/Object;Ljava/lang/Object;)V"⟩ (ws_ ⟨"java/util/TreeMap", "addEntryToEmptyMap", "(Ljava/lang/Object;Ljava/lang/Object;)V"⟩ prog_93_method_30_code 3 none) 5 [.ref x0, .ref x1, .ref x2] g (f_J28_addEntryToEmptyMap γ x0 x1 x2 g) := by
  refine TrM_of (plainFor_of_name (by decide)) (Nat.le_of_ble_eq_true rfl) ?_
  unfold f_J28_addEntryToEmptyMap
  change AW ρV γ l ck_J28_addEntryToEmptyMap g 0 [(0, .ref x0), (1, .ref x1), (2, .ref x2)] [] g _
  refine r_aload_n (pc := 0) dJ28_addEntryToEmptyMap_0 rfl 0 rfl ?_
  refine r_aload_n (pc := 1) dJ28_addEntryToEmptyMap_1 rfl 1 rfl ?_
  refine r_aload_n (pc := 2) dJ28_addEntryToEmptyMap_2 rfl 1 rfl ?_
  refine r_cI (pc := 3) (rest := []) (RunOK_chk (fun h => run_V (n := 2) (c9 := 15) (As := [.ref x1, .ref x1]) (rest := []) (t_J28_compare γ l hl x0 x1 x1 g) dJ28_addEntryToEmptyMap_3 q1813 q1814 q1815 q143 q1816 (by decide +kernel) rfl h ⟨rfl, by decide, by decide⟩ (Nat.le_of_ble_eq_true rfl) (Nat.le_of_ble_eq_true rfl) rfl (Nat.le_of_ble_eq_true rfl))) (fun v2 g1 => ?_)
  refine r_pop (pc := 6) dJ28_addEntryToEmptyMap_6 rfl ?_
  refine r_aload_n (pc := 7) dJ28_addEntryToEmptyMap_7 rfl 0 rfl ?_
  refine r_new (c := 23) (pc := 8) dJ28_addEntryToEmptyMap_8 q1817 (by decide) (by decide) (fun q3 g4 => ?_)
  refine r_dup (pc := 11) dJ28_addEntryToEmptyMap_11 rfl ?_
  refine r_aload_n (pc := 12) dJ28_addEntryToEmptyMap_12 rfl 1 rfl ?_
  refine r_aload_n (pc := 13) dJ28_addEntryToEmptyMap_13 rfl 2 rfl ?_
  refine r_null (pc := 14) dJ28_addEntryToEmptyMap_14 ?_
  refine r_cV (pc := 15) (rest := [.ref q3, .ref x0]) (RunOK_chk (fun h => run_I (n := 3) (As := [.ref x1, .ref x2, .ref 0]) (rest := [.ref q3, .ref x0]) (t_J39_init γ l hl q3 x1 x2 0 g4) dJ28_addEntryToEmptyMap_15 q1819 q1820 q160 q1821 rfl (by decide +kernel) rfl h (Nat.le_of_ble_eq_true rfl) (Nat.le_of_ble_eq_true rfl) rfl (Nat.le_of_ble_eq_true rfl))) (fun g5 => ?_)
  refine r_putR (f := 70) (pc := 18) dJ28_addEntryToEmptyMap_18 q1425 (Or.inl rfl) (Or.inl rfl) rfl (fun g6 => ?_)
  refine r_aload_n (pc := 21) dJ28_addEntryToEmptyMap_21 rfl 0 rfl ?_
  refine r_iconst (v := (1 : Int32)) (pc := 22) dJ28_addEntryToEmptyMap_22 (by decide) ?_
  refine r_putI (f := 71) (pc := 23) dJ28_addEntryToEmptyMap_23 q1426 (Or.inl rfl) (Or.inl rfl) rfl (fun g7 => ?_)
  refine r_aload_n (pc := 26) dJ28_addEntryToEmptyMap_26 rfl 0 rfl ?_
  refine r_dup (pc := 27) dJ28_addEntryToEmptyMap_27 rfl ?_
  refine r_getI (f := 72) (pc := 28) dJ28_addEntryToEmptyMap_28 q1428 (Or.inl rfl) rfl (fun v8 => ?_)
  refine r_iconst (v := (1 : Int32)) (pc := 31) dJ28_addEntryToEmptyMap_31 (by decide) ?_
  refine r_iadd (pc := 32) dJ28_addEntryToEmptyMap_32 ?_
  refine r_putI (f := 72) (pc := 33) dJ28_addEntryToEmptyMap_33 q1428 (Or.inl rfl) (Or.inl rfl) rfl (fun g9 => ?_)
  exact r_vret (pc := 36) dJ28_addEntryToEmptyMap_36 rfl
abbrev ck_J28_parentOf : CK := ("java/util/TreeMap", prog_93_method_77_code, 1, (some (.object "java/util/TreeMap$Entry")), "parentOf", [], 1)
def f_J28_parentOf (γ : GP) (x0 : Nat) (g : AH) : Option (Nat × AH) := (if x0 = 0 then (some (0, g)) else gR g x0 101 fun v1 => (some (v1, g)))
theorem t_J28_parentOf (γ : GP) (l : Launch) (hl : l.stackTraces = false) (x0 : Nat) (g : AH) : TrM ρR γ l ⟨"java/util/TreeMap", "parentOf", "(Ljava/util/TreeMap$Entry;)Ljava/util/TreeMap$Entry;"⟩ (ws_ ⟨"java/util/TreeMap", "parentOf", "(Ljava/util/TreeMap$Entry;)Ljava/util/TreeMap$Entry;"⟩ prog_93_method_77_code 1 (some (.object "java/util/TreeMap$Entry"))) 1 [.ref x0] g (f_J28_parentOf γ x0 g) := by
  refine TrM_of (plainFor_of_name (by decide)) (Nat.le_of_ble_eq_true rfl) ?_
  unfold f_J28_parentOf
  change AW ρR γ l ck_J28_parentOf g 0 [(0, .ref x0)] [] g _
  refine r_aload_n (pc := 0) dJ28_parentOf_0 rfl 0 rfl ?_
  refine r_ifnonnull (tgt := 8) (pc := 1) dJ28_parentOf_1 (by decide) ?_ ?_
  · skip
    refine r_null (pc := 4) dJ28_parentOf_4 ?_
    refine r_goto (tgt := 12) (pc := 5) dJ28_parentOf_5 (by decide) ?_
    exact r_aret (pc := 12) dJ28_parentOf_12 rfl (by first | exact Or.inl ⟨_, rfl⟩ | exact Or.inr ⟨_, rfl⟩)
  · skip
    refine r_aload_n (pc := 8) dJ28_parentOf_8 rfl 0 rfl ?_
    refine r_getR (f := 101) (pc := 9) dJ28_parentOf_9 q1832 (Or.inl rfl) rfl (fun v1 => ?_)
    exact r_aret (pc := 12) dJ28_parentOf_12 rfl (by first | exact Or.inl ⟨_, rfl⟩ | exact Or.inr ⟨_, rfl⟩)
abbrev ck_J28_leftOf : CK := ("java/util/TreeMap", prog_93_method_79_code, 1, (some (.object "java/util/TreeMap$Entry")), "leftOf", [], 1)
def f_J28_leftOf (γ : GP) (x0 : Nat) (g : AH) : Option (Nat × AH) := (if x0 = 0 then (some (0, g)) else gR g x0 99 fun v1 => (some (v1, g)))
theorem t_J28_leftOf (γ : GP) (l : Launch) (hl : l.stackTraces = false) (x0 : Nat) (g : AH) : TrM ρR γ l ⟨"java/util/TreeMap", "leftOf", "(Ljava/util/TreeMap$Entry;)Ljava/util/TreeMap$Entry;"⟩ (ws_ ⟨"java/util/TreeMap", "leftOf", "(Ljava/util/TreeMap$Entry;)Ljava/util/TreeMap$Entry;"⟩ prog_93_method_79_code 1 (some (.object "java/util/TreeMap$Entry"))) 1 [.ref x0] g (f_J28_leftOf γ x0 g) := by
  refine TrM_of (plainFor_of_name (by decide)) (Nat.le_of_ble_eq_true rfl) ?_
  unfold f_J28_leftOf
  change AW ρR γ l ck_J28_leftOf g 0 [(0, .ref x0)] [] g _
  refine r_aload_n (pc := 0) dJ28_leftOf_0 rfl 0 rfl ?_
  refine r_ifnonnull (tgt := 8) (pc := 1) dJ28_leftOf_1 (by decide) ?_ ?_
  · skip
    refine r_null (pc := 4) dJ28_leftOf_4 ?_
    refine r_goto (tgt := 12) (pc := 5) dJ28_leftOf_5 (by decide) ?_
    exact r_aret (pc := 12) dJ28_leftOf_12 rfl (by first | exact Or.inl ⟨_, rfl⟩ | exact Or.inr ⟨_, rfl⟩)
  · skip
    refine r_aload_n (pc := 8) dJ28_leftOf_8 rfl 0 rfl ?_
    refine r_getR (f := 99) (pc := 9) dJ28_leftOf_9 q1829 (Or.inl rfl) rfl (fun v1 => ?_)
    exact r_aret (pc := 12) dJ28_leftOf_12 rfl (by first | exact Or.inl ⟨_, rfl⟩ | exact Or.inr ⟨_, rfl⟩)
abbrev ck_J28_rightOf : CK := ("java/util/TreeMap", prog_93_method_80_code, 1, (some (.object "java/util/TreeMap$Entry")), "rightOf", [], 1)
def f_J28_rightOf (γ : GP) (x0 : Nat) (g : AH) : Option (Nat × AH) := (if x0 = 0 then (some (0, g)) else gR g x0 100 fun v1 => (some (v1, g)))
theorem t_J28_rightOf (γ : GP) (l : Launch) (hl : l.stackTraces = false) (x0 : Nat) (g : AH) : TrM ρR γ l ⟨"java/util/TreeMap", "rightOf", "(Ljava/util/TreeMap$Entry;)Ljava/util/TreeMap$Entry;"⟩ (ws_ ⟨"java/util/TreeMap", "rightOf", "(Ljava/util/TreeMap$Entry;)Ljava/util/TreeMap$Entry;"⟩ prog_93_method_80_code 1 (some (.object "java/util/TreeMap$Entry"))) 1 [.ref x0] g (f_J28_rightOf γ x0 g) := by
  refine TrM_of (plainFor_of_name (by decide)) (Nat.le_of_ble_eq_true rfl) ?_
  unfold f_J28_rightOf
  change AW ρR γ l ck_J28_rightOf g 0 [(0, .ref x0)] [] g _
  refine r_aload_n (pc := 0) dJ28_rightOf_0 rfl 0 rfl ?_
  refine r_ifnonnull (tgt := 8) (pc := 1) dJ28_rightOf_1 (by decide) ?_ ?_
  · skip
    refine r_null (pc := 4) dJ28_rightOf_4 ?_
    refine r_goto (tgt := 12) (pc := 5) dJ28_rightOf_5 (by decide) ?_
    exact r_aret (pc := 12) dJ28_rightOf_12 rfl (by first | exact Or.inl ⟨_, rfl⟩ | exact Or.inr ⟨_, rfl⟩)
  · skip
    refine r_aload_n (pc := 8) dJ28_rightOf_8 rfl 0 rfl ?_
    refine r_getR (f := 100) (pc := 9) dJ28_rightOf_9 q1830 (Or.inl rfl) rfl (fun v1 => ?_)
    exact r_aret (pc := 12) dJ28_rightOf_12 rfl (by first | exact Or.inl ⟨_, rfl⟩ | exact Or.inr ⟨_, rfl⟩)
abbrev ck_J28_colorOf : CK := ("java/util/TreeMap", prog_93_method_76_code, 1, (some .boolean), "colorOf", [], 1)
def f_J28_colorOf (γ : GP) (x0 : Nat) (g : AH) : Option (Int32 × AH) := (if x0 = 0 then (rtN .boolean (1 : Int32) g) else gI g x0 102 fun v1 => (rtN .boolean v1 g))
theorem t_J28_colorOf (γ : GP) (l : Launch) (hl : l.stackTraces = false) (x0 : Nat) (g : AH) : TrM ρI γ l ⟨"java/util/TreeMap", "colorOf", "(Ljava/util/TreeMap$Entry;)Z"⟩ (ws_ ⟨"java/util/TreeMap", "colorOf", "(Ljava/util/TreeMap$Entry;)Z"⟩ prog_93_method_76_code 1 (some .boolean)) 1 [.ref x0] g (f_J28_colorOf γ x0 g) := by
  refine TrM_of (plainFor_of_name (by decide)) (Nat.le_of_ble_eq_true rfl) ?_
  unfold f_J28_colorOf
  change AW ρI γ l ck_J28_colorOf g 0 [(0, .ref x0)] [] g _
  refine r_aload_n (pc := 0) dJ28_colorOf_0 rfl 0 rfl ?_
  refine r_ifnonnull (tgt := 8) (pc := 1) dJ28_colorOf_1 (by decide) ?_ ?_
  · skip
    refine r_iconst (v := (1 : Int32)) (pc := 4) dJ28_colorOf_4 (by decide) ?_
    refine r_goto (tgt := 12) (pc := 5) dJ28_colorOf_5 (by decide) ?_
    exact r_zret (ty := .boolean) (pc := 12) dJ28_colorOf_12 rfl
  · skip
    refine r_aload_n (pc := 8) dJ28_colorOf_8 rfl 0 rfl ?_
    refine r_getI (f := 102) (pc := 9) dJ28_colorOf_9 q1834 (Or.inl rfl) rfl (fun v1 => ?_)
    exact r_zret (ty := .boolean) (pc := 12) dJ28_colorOf_12 rfl
abbrev ck_J28_setColor : CK := ("java/util/TreeMap", prog_93_method_78_code, 2, none, "setColor", [], 1)
def f_J28_setColor (γ : GP) (x0 : Nat) (x1 : Int32) (g : AH) : Option (AH) := (if x0 = 0 then (some g) else pI γ g x0 102 x1 fun g1 => (some g1))
theorem t_J28_setColor (γ : GP) (l : Launch) (hl : l.stackTraces = false) (x0 : Nat) (x1 : Int32) (g : AH) : TrM ρV γ l ⟨"java/util/TreeMap", "setColor", "(Ljava/util/TreeMap$Entry;Z)V"⟩ (ws_ ⟨"java/util/TreeMap", "setColor", "(Ljava/util/TreeMap$Entry;Z)V"⟩ prog_93_method_78_code 2 none) 1 [.ref x0, .int x1] g (f_J28_setColor γ x0 x1 g) := by
  refine TrM_of (plainFor_of_name (by decide)) (Nat.le_of_ble_eq_true rfl) ?_
  unfold f_J28_setColor
  change AW ρV γ l ck_J28_setColor g 0 [(0, .ref x0), (1, .int x1)] [] g _
  refine r_aload_n (pc := 0) dJ28_setColor_0 rfl 0 rfl ?_
  refine r_ifnull (tgt := 9) (pc := 1) dJ28_setColor_1 (by decide) ?_ ?_
  · skip
    exact r_vret (pc := 9) dJ28_setColor_9 rfl
  · skip
    refine r_aload_n (pc := 4) dJ28_setColor_4 rfl 0 rfl ?_
    refine r_iload_n (pc := 5) dJ28_setColor_5 rfl 1 rfl ?_
    refine r_putI (f := 102) (pc := 6) dJ28_setColor_6 q1834 (Or.inl rfl) (Or.inl rfl) rfl (fun g1 => ?_)
    exact r_vret (pc := 9) dJ28_setColor_9 rfl
abbrev ck_J28_rotateLeft : CK := ("java/util/TreeMap", prog_93_method_81_code, 3, none, "rotateLeft", [], 1)
def f_J28_rotateLeft (γ : GP) (x0 : Nat) (x1 : Nat) (g : AH) : Option (AH) := (if x1 = 0 then (some g) else gR g x1 100 fun v1 => gR g v1 99 fun v2 => pR γ g x1 100 v2 fun g3 => gR g3 v1 99 fun v4 => jn (fun (g5 : AH) => gR g5 x1 101 fun v7 => pR γ g5 v1 101 v7 fun g8 => gR g8 x1 101 fun v9 => (if v9 = 0 then pR γ g8 x0 70 v1 fun g10 => pR γ g10 v1 99 x1 fun g11 => pR γ g11 x1 101 v1 fun g12 => (some g12) else gR g8 x1 101 fun v13 => gR g8 v13 99 fun v14 => (if v14 = x1 then gR g8 x1 101 fun v15 => pR γ g8 v15 99 v1 fun g16 => pR γ g16 v1 99 x1 fun g17 => pR γ g17 x1 101 v1 fun g18 => (some g18) else gR g8 x1 101 fun v19 => pR γ g8 v19 100 v1 fun g20 => pR γ g20 v1 99 x1 fun g21 => pR γ g21 x1 101 v1 fun g22 => (some g22)))) (fun (j6 : AH → Option (AH)) => (if v4 = 0 then j6 g3 else gR g3 v1 99 fun v23 => pR γ g3 v23 101 x1 fun g24 => j6 g24)))
theorem t_J28_rotateLeft (γ : GP) (l : Launch) (hl : l.stackTraces = false) (x0 : Nat) (x1 : Nat) (g : AH) : TrM ρV γ l ⟨"java/util/TreeMap", "rotateLeft", "(Ljava/util/TreeMap$Entry;)V"⟩ (ws_ ⟨"java/util/TreeMap", "rotateLeft", "(Ljava/util/TreeMap$Entry;)V"⟩ prog_93_method_81_code 3 none) 1 [.ref x0, .ref x1] g (f_J28_rotateLeft γ x0 x1 g) := by
  refine TrM_of (plainFor_of_name (by decide)) (Nat.le_of_ble_eq_true rfl) ?_
  unfold f_J28_rotateLeft
  change AW ρV γ l ck_J28_rotateLeft g 0 [(0, .ref x0), (1, .ref x1)] [] g _
  refine r_aload_n (pc := 0) dJ28_rotateLeft_0 rfl 1 rfl ?_
  refine r_ifnull (tgt := 95) (pc := 1) dJ28_rotateLeft_1 (by decide) ?_ ?_
  · skip
    exact r_vret (pc := 95) dJ28_rotateLeft_95 rfl
  · skip
    refine r_aload_n (pc := 4) dJ28_rotateLeft_4 rfl 1 rfl ?_
    refine r_getR (f := 100) (pc := 5) dJ28_rotateLeft_5 q1830 (Or.inl rfl) rfl (fun v1 => ?_)
    refine r_astore_n (pc := 8) dJ28_rotateLeft_8 rfl (Nat.le_of_ble_eq_true rfl) rfl ?_
    refine r_aload_n (pc := 9) dJ28_rotateLeft_9 rfl 2 rfl ?_
    refine r_aload_n (pc := 10) dJ28_rotateLeft_10 rfl 0 rfl ?_
    refine r_getR (f := 99) (pc := 11) dJ28_rotateLeft_11 q1829 (Or.inl rfl) rfl (fun v2 => ?_)
    refine r_putR (f := 100) (pc := 14) dJ28_rotateLeft_14 q1830 (Or.inl rfl) (Or.inl rfl) rfl (fun g3 => ?_)
    refine r_aload_n (pc := 17) dJ28_rotateLeft_17 rfl 0 rfl ?_
    refine r_getR (f := 99) (pc := 18) dJ28_rotateLeft_18 q1829 (Or.inl rfl) rfl (fun v4 => ?_)
    refine AW_jn (P := fun (j : AH → Option (AH)) => ∀ (g5 : AH), AW ρV γ l ck_J28_rotateLeft g 32 [(0, .ref x0), (1, .ref x1), (2, .ref v1)] [] g5 (j g5)) (fun g5 => ?_) (fun j6 h_j6 => ?_)
    · skip
      refine r_aload_n (pc := 32) dJ28_rotateLeft_32 rfl 2 rfl ?_
      refine r_aload_n (pc := 33) dJ28_rotateLeft_33 rfl 1 rfl ?_
      refine r_getR (f := 101) (pc := 34) dJ28_rotateLeft_34 q1832 (Or.inl rfl) rfl (fun v7 => ?_)
      refine r_putR (f := 101) (pc := 37) dJ28_rotateLeft_37 q1832 (Or.inl rfl) (Or.inl rfl) rfl (fun g8 => ?_)
      refine r_aload_n (pc := 40) dJ28_rotateLeft_40 rfl 1 rfl ?_
      refine r_getR (f := 101) (pc := 41) dJ28_rotateLeft_41 q1832 (Or.inl rfl) rfl (fun v9 => ?_)
      refine r_ifnonnull (tgt := 55) (pc := 44) dJ28_rotateLeft_44 (by decide) ?_ ?_
      · skip
        refine r_aload_n (pc := 47) dJ28_rotateLeft_47 rfl 0 rfl ?_
        refine r_aload_n (pc := 48) dJ28_rotateLeft_48 rfl 2 rfl ?_
        refine r_putR (f := 70) (pc := 49) dJ28_rotateLeft_49 q1425 (Or.inl rfl) (Or.inl rfl) rfl (fun g10 => ?_)
        refine r_goto (tgt := 85) (pc := 52) dJ28_rotateLeft_52 (by decide) ?_
        refine r_aload_n (pc := 85) dJ28_rotateLeft_85 rfl 2 rfl ?_
        refine r_aload_n (pc := 86) dJ28_rotateLeft_86 rfl 1 rfl ?_
        refine r_putR (f := 99) (pc := 87) dJ28_rotateLeft_87 q1829 (Or.inl rfl) (Or.inl rfl) rfl (fun g11 => ?_)
        refine r_aload_n (pc := 90) dJ28_rotateLeft_90 rfl 1 rfl ?_
        refine r_aload_n (pc := 91) dJ28_rotateLeft_91 rfl 2 rfl ?_
        refine r_putR (f := 101) (pc := 92) dJ28_rotateLeft_92 q1832 (Or.inl rfl) (Or.inl rfl) rfl (fun g12 => ?_)
        exact r_vret (pc := 95) dJ28_rotateLeft_95 rfl
      · skip
        refine r_aload_n (pc := 55) dJ28_rotateLeft_55 rfl 1 rfl ?_
        refine r_getR (f := 101) (pc := 56) dJ28_rotateLeft_56 q1832 (Or.inl rfl) rfl (fun v13 => ?_)
        refine r_getR (f := 99) (pc := 59) dJ28_rotateLeft_59 q1829 (Or.inl rfl) rfl (fun v14 => ?_)
        refine r_aload_n (pc := 62) dJ28_rotateLeft_62 rfl 1 rfl ?_
        refine r_acmp_ne (tgt := 77) (pc := 63) dJ28_rotateLeft_63 (by decide) ?_ ?_
        · skip
          refine r_aload_n (pc := 66) dJ28_rotateLeft_66 rfl 1 rfl ?_
          refine r_getR (f := 101) (pc := 67) dJ28_rotateLeft_67 q1832 (Or.inl rfl) rfl (fun v15 => ?_)
          refine r_aload_n (pc := 70) dJ28_rotateLeft_70 rfl 2 rfl ?_
          refine r_putR (f := 99) (pc := 71) dJ28_rotateLeft_71 q1829 (Or.inl rfl) (Or.inl rfl) rfl (fun g16 => ?_)
          refine r_goto (tgt := 85) (pc := 74) dJ28_rotateLeft_74 (by decide) ?_
          refine r_aload_n (pc := 85) dJ28_rotateLeft_85 rfl 2 rfl ?_
          refine r_aload_n (pc := 86) dJ28_rotateLeft_86 rfl 1 rfl ?_
          refine r_putR (f := 99) (pc := 87) dJ28_rotateLeft_87 q1829 (Or.inl rfl) (Or.inl rfl) rfl (fun g17 => ?_)
          refine r_aload_n (pc := 90) dJ28_rotateLeft_90 rfl 1 rfl ?_
          refine r_aload_n (pc := 91) dJ28_rotateLeft_91 rfl 2 rfl ?_
          refine r_putR (f := 101) (pc := 92) dJ28_rotateLeft_92 q1832 (Or.inl rfl) (Or.inl rfl) rfl (fun g18 => ?_)
          exact r_vret (pc := 95) dJ28_rotateLeft_95 rfl
        · skip
          refine r_aload_n (pc := 77) dJ28_rotateLeft_77 rfl 1 rfl ?_
          refine r_getR (f := 101) (pc := 78) dJ28_rotateLeft_78 q1832 (Or.inl rfl) rfl (fun v19 => ?_)
          refine r_aload_n (pc := 81) dJ28_rotateLeft_81 rfl 2 rfl ?_
          refine r_putR (f := 100) (pc := 82) dJ28_rotateLeft_82 q1830 (Or.inl rfl) (Or.inl rfl) rfl (fun g20 => ?_)
          refine r_aload_n (pc := 85) dJ28_rotateLeft_85 rfl 2 rfl ?_
          refine r_aload_n (pc := 86) dJ28_rotateLeft_86 rfl 1 rfl ?_
          refine r_putR (f := 99) (pc := 87) dJ28_rotateLeft_87 q1829 (Or.inl rfl) (Or.inl rfl) rfl (fun g21 => ?_)
          refine r_aload_n (pc := 90) dJ28_rotateLeft_90 rfl 1 rfl ?_
          refine r_aload_n (pc := 91) dJ28_rotateLeft_91 rfl 2 rfl ?_
          refine r_putR (f := 101) (pc := 92) dJ28_rotateLeft_92 q1832 (Or.inl rfl) (Or.inl rfl) rfl (fun g22 => ?_)
          exact r_vret (pc := 95) dJ28_rotateLeft_95 rfl
    · skip
      refine r_ifnull (tgt := 32) (pc := 21) dJ28_rotateLeft_21 (by decide) ?_ ?_
      · skip
        refine AW_sub [1, 2, 0] rfl ?_
        exact h_j6 g3
      · skip
        refine r_aload_n (pc := 24) dJ28_rotateLeft_24 rfl 0 rfl ?_
        refine r_getR (f := 99) (pc := 25) dJ28_rotateLeft_25 q1829 (Or.inl rfl) rfl (fun v23 => ?_)
        refine r_aload_n (pc := 28) dJ28_rotateLeft_28 rfl 2 rfl ?_
        refine r_putR (f := 101) (pc := 29) dJ28_rotateLeft_29 q1832 (Or.inl rfl) (Or.inl rfl) rfl (fun g24 => ?_)
        refine AW_sub [1, 2, 0] rfl ?_
        exact h_j6 g24
abbrev ck_J28_rotateRight : CK := ("java/util/TreeMap", prog_93_method_82_code, 3, none, "rotateRight", [], 1)
def f_J28_rotateRight (γ : GP) (x0 : Nat) (x1 : Nat) (g : AH) : Option (AH) := (if x1 = 0 then (some g) else gR g x1 99 fun v1 => gR g v1 100 fun v2 => pR γ g x1 99 v2 fun g3 => gR g3 v1 100 fun v4 => jn (fun (g5 : AH) => gR g5 x1 101 fun v7 => pR γ g5 v1 101 v7 fun g8 => gR g8 x1 101 fun v9 => (if v9 = 0 then pR γ g8 x0 70 v1 fun g10 => pR γ g10 v1 100 x1 fun g11 => pR γ g11 x1 101 v1 fun g12 => (some g12) else gR g8 x1 101 fun v13 => gR g8 v13 100 fun v14 => (if v14 = x1 then gR g8 x1 101 fun v15 => pR γ g8 v15 100 v1 fun g16 => pR γ g16 v1 100 x1 fun g17 => pR γ g17 x1 101 v1 fun g18 => (some g18) else gR g8 x1 101 fun v19 => pR γ g8 v19 99 v1 fun g20 => pR γ g20 v1 100 x1 fun g21 => pR γ g21 x1 101 v1 fun g22 => (some g22)))) (fun (j6 : AH → Option (AH)) => (if v4 = 0 then j6 g3 else gR g3 v1 100 fun v23 => pR γ g3 v23 101 x1 fun g24 => j6 g24)))
theorem t_J28_rotateRight (γ : GP) (l : Launch) (hl : l.stackTraces = false) (x0 : Nat) (x1 : Nat) (g : AH) : TrM ρV γ l ⟨"java/util/TreeMap", "rotateRight", "(Ljava/util/TreeMap$Entry;)V"⟩ (ws_ ⟨"java/util/TreeMap", "rotateRight", "(Ljava/util/TreeMap$Entry;)V"⟩ prog_93_method_82_code 3 none) 1 [.ref x0, .ref x1] g (f_J28_rotateRight γ x0 x1 g) := by
  refine TrM_of (plainFor_of_name (by decide)) (Nat.le_of_ble_eq_true rfl) ?_
  unfold f_J28_rotateRight
  change AW ρV γ l ck_J28_rotateRight g 0 [(0, .ref x0), (1, .ref x1)] [] g _
  refine r_aload_n (pc := 0) dJ28_rotateRight_0 rfl 1 rfl ?_
  refine r_ifnull (tgt := 95) (pc := 1) dJ28_rotateRight_1 (by decide) ?_ ?_
  · skip
    exact r_vret (pc := 95) dJ28_rotateRight_95 rfl
  · skip
    refine r_aload_n (pc := 4) dJ28_rotateRight_4 rfl 1 rfl ?_
    refine r_getR (f := 99) (pc := 5) dJ28_rotateRight_5 q1829 (Or.inl rfl) rfl (fun v1 => ?_)
    refine r_astore_n (pc := 8) dJ28_rotateRight_8 rfl (Nat.le_of_ble_eq_true rfl) rfl ?_
    refine r_aload_n (pc := 9) dJ28_rotateRight_9 rfl 2 rfl ?_
    refine r_aload_n (pc := 10) dJ28_rotateRight_10 rfl 0 rfl ?_
    refine r_getR (f := 100) (pc := 11) dJ28_rotateRight_11 q1830 (Or.inl rfl) rfl (fun v2 => ?_)
    refine r_putR (f := 99) (pc := 14) dJ28_rotateRight_14 q1829 (Or.inl rfl) (Or.inl rfl) rfl (fun g3 => ?_)
    refine r_aload_n (pc := 17) dJ28_rotateRight_17 rfl 0 rfl ?_
    refine r_getR (f := 100) (pc := 18) dJ28_rotateRight_18 q1830 (Or.inl rfl) rfl (fun v4 => ?_)
    refine AW_jn (P := fun (j : AH → Option (AH)) => ∀ (g5 : AH), AW ρV γ l ck_J28_rotateRight g 32 [(0, .ref x0), (1, .ref x1), (2, .ref v1)] [] g5 (j g5)) (fun g5 => ?_) (fun j6 h_j6 => ?_)
    · skip
      refine r_aload_n (pc := 32) dJ28_rotateRight_32 rfl 2 rfl ?_
      refine r_aload_n (pc := 33) dJ28_rotateRight_33 rfl 1 rfl ?_
      refine r_getR (f := 101) (pc := 34) dJ28_rotateRight_34 q1832 (Or.inl rfl) rfl (fun v7 => ?_)
      refine r_putR (f := 101) (pc := 37) dJ28_rotateRight_37 q1832 (Or.inl rfl) (Or.inl rfl) rfl (fun g8 => ?_)
      refine r_aload_n (pc := 40) dJ28_rotateRight_40 rfl 1 rfl ?_
      refine r_getR (f := 101) (pc := 41) dJ28_rotateRight_41 q1832 (Or.inl rfl) rfl (fun v9 => ?_)
      refine r_ifnonnull (tgt := 55) (pc := 44) dJ28_rotateRight_44 (by decide) ?_ ?_
      · skip
        refine r_aload_n (pc := 47) dJ28_rotateRight_47 rfl 0 rfl ?_
        refine r_aload_n (pc := 48) dJ28_rotateRight_48 rfl 2 rfl ?_
        refine r_putR (f := 70) (pc := 49) dJ28_rotateRight_49 q1425 (Or.inl rfl) (Or.inl rfl) rfl (fun g10 => ?_)
        refine r_goto (tgt := 85) (pc := 52) dJ28_rotateRight_52 (by decide) ?_
        refine r_aload_n (pc := 85) dJ28_rotateRight_85 rfl 2 rfl ?_
        refine r_aload_n (pc := 86) dJ28_rotateRight_86 rfl 1 rfl ?_
        refine r_putR (f := 100) (pc := 87) dJ28_rotateRight_87 q1830 (Or.inl rfl) (Or.inl rfl) rfl (fun g11 => ?_)
        refine r_aload_n (pc := 90) dJ28_rotateRight_90 rfl 1 rfl ?_
        refine r_aload_n (pc := 91) dJ28_rotateRight_91 rfl 2 rfl ?_
        refine r_putR (f := 101) (pc := 92) dJ28_rotateRight_92 q1832 (Or.inl rfl) (Or.inl rfl) rfl (fun g12 => ?_)
        exact r_vret (pc := 95) dJ28_rotateRight_95 rfl
      · skip
        refine r_aload_n (pc := 55) dJ28_rotateRight_55 rfl 1 rfl ?_
        refine r_getR (f := 101) (pc := 56) dJ28_rotateRight_56 q1832 (Or.inl rfl) rfl (fun v13 => ?_)
        refine r_getR (f := 100) (pc := 59) dJ28_rotateRight_59 q1830 (Or.inl rfl) rfl (fun v14 => ?_)
        refine r_aload_n (pc := 62) dJ28_rotateRight_62 rfl 1 rfl ?_
        refine r_acmp_ne (tgt := 77) (pc := 63) dJ28_rotateRight_63 (by decide) ?_ ?_
        · skip
          refine r_aload_n (pc := 66) dJ28_rotateRight_66 rfl 1 rfl ?_
          refine r_getR (f := 101) (pc := 67) dJ28_rotateRight_67 q1832 (Or.inl rfl) rfl (fun v15 => ?_)
          refine r_aload_n (pc := 70) dJ28_rotateRight_70 rfl 2 rfl ?_
          refine r_putR (f := 100) (pc := 71) dJ28_rotateRight_71 q1830 (Or.inl rfl) (Or.inl rfl) rfl (fun g16 => ?_)
          refine r_goto (tgt := 85) (pc := 74) dJ28_rotateRight_74 (by decide) ?_
          refine r_aload_n (pc := 85) dJ28_rotateRight_85 rfl 2 rfl ?_
          refine r_aload_n (pc := 86) dJ28_rotateRight_86 rfl 1 rfl ?_
          refine r_putR (f := 100) (pc := 87) dJ28_rotateRight_87 q1830 (Or.inl rfl) (Or.inl rfl) rfl (fun g17 => ?_)
          refine r_aload_n (pc := 90) dJ28_rotateRight_90 rfl 1 rfl ?_
          refine r_aload_n (pc := 91) dJ28_rotateRight_91 rfl 2 rfl ?_
          refine r_putR (f := 101) (pc := 92) dJ28_rotateRight_92 q1832 (Or.inl rfl) (Or.inl rfl) rfl (fun g18 => ?_)
          exact r_vret (pc := 95) dJ28_rotateRight_95 rfl
        · skip
          refine r_aload_n (pc := 77) dJ28_rotateRight_77 rfl 1 rfl ?_
          refine r_getR (f := 101) (pc := 78) dJ28_rotateRight_78 q1832 (Or.inl rfl) rfl (fun v19 => ?_)
          refine r_aload_n (pc := 81) dJ28_rotateRight_81 rfl 2 rfl ?_
          refine r_putR (f := 99) (pc := 82) dJ28_rotateRight_82 q1829 (Or.inl rfl) (Or.inl rfl) rfl (fun g20 => ?_)
          refine r_aload_n (pc := 85) dJ28_rotateRight_85 rfl 2 rfl ?_
          refine r_aload_n (pc := 86) dJ28_rotateRight_86 rfl 1 rfl ?_
          refine r_putR (f := 100) (pc := 87) dJ28_rotateRight_87 q1830 (Or.inl rfl) (Or.inl rfl) rfl (fun g21 => ?_)
          refine r_aload_n (pc := 90) dJ28_rotateRight_90 rfl 1 rfl ?_
          refine r_aload_n (pc := 91) dJ28_rotateRight_91 rfl 2 rfl ?_
          refine r_putR (f := 101) (pc := 92) dJ28_rotateRight_92 q1832 (Or.inl rfl) (Or.inl rfl) rfl (fun g22 => ?_)
          exact r_vret (pc := 95) dJ28_rotateRight_95 rfl
    · skip
      refine r_ifnull (tgt := 32) (pc := 21) dJ28_rotateRight_21 (by decide) ?_ ?_
      · skip
        refine AW_sub [1, 2, 0] rfl ?_
        exact h_j6 g3
      · skip
        refine r_aload_n (pc := 24) dJ28_rotateRight_24 rfl 0 rfl ?_
        refine r_getR (f := 100) (pc := 25) dJ28_rotateRight_25 q1830 (Or.inl rfl) rfl (fun v23 => ?_)
        refine r_aload_n (pc := 28) dJ28_rotateRight_28 rfl 2 rfl ?_
        refine r_putR (f := 101) (pc := 29) dJ28_rotateRight_29 q1832 (Or.inl rfl) (Or.inl rfl) rfl (fun g24 => ?_)
        refine AW_sub [1, 2, 0] rfl ?_
        exact h_j6 g24
abbrev ck_J28_fixAfterInsertion : CK := ("java/util/TreeMap", prog_93_method_83_code, 3, none, "fixAfterInsertion", [], 2)
def f_J28_fixAfterInsertion_L5 (γ : GP) (x0 : Nat) : Nat → Nat → AH → Option (AH)
  | 0, _, _ => none
  | n + 1, x1, g => (if x1 = 0 then gR g x0 70 fun v2 => pI γ g v2 102 (1 : Int32) fun g3 => (some g3) else gR g x0 70 fun v4 => (if x1 = v4 then gR g x0 70 fun v5 => pI γ g v5 102 (1 : Int32) fun g6 => (some g6) else gR g x1 101 fun v7 => gI g v7 102 fun v8 => (if v8 = 0 then bR (f_J28_parentOf γ x1 g) fun v10 g9 => bR (f_J28_parentOf γ x1 g9) fun v12 g11 => bR (f_J28_parentOf γ v12 g11) fun v14 g13 => bR (f_J28_leftOf γ v14 g13) fun v16 g15 => (if v10 = v16 then bR (f_J28_parentOf γ x1 g15) fun v18 g17 => bR (f_J28_parentOf γ v18 g17) fun v20 g19 => bR (f_J28_rightOf γ v20 g19) fun v22 g21 => bI (f_J28_colorOf γ v22 g21) fun v24 g23 => (if v24 = 0 then bR (f_J28_parentOf γ x1 g23) fun v26 g25 => bV (f_J28_setColor γ v26 (1 : Int32) g25) fun g27 => bV (f_J28_setColor γ v22 (1 : Int32) g27) fun g28 => bR (f_J28_parentOf γ x1 g28) fun v30 g29 => bR (f_J28_parentOf γ v30 g29) fun v32 g31 => bV (f_J28_setColor γ v32 (0 : Int32) g31) fun g33 => bR (f_J28_parentOf γ x1 g33) fun v35 g34 => bR (f_J28_parentOf γ v35 g34) fun v37 g36 => f_J28_fixAfterInsertion_L5 γ x0 n v37 g36 else bR (f_J28_parentOf γ x1 g23) fun v39 g38 => bR (f_J28_rightOf γ v39 g38) fun v41 g40 => jn (fun (y42 : Nat) (g43 : AH) => bR (f_J28_parentOf γ y42 g43) fun v46 g45 => bV (f_J28_setColor γ v46 (1 : Int32) g45) fun g47 => bR (f_J28_parentOf γ y42 g47) fun v49 g48 => bR (f_J28_parentOf γ v49 g48) fun v51 g50 => bV (f_J28_setColor γ v51 (0 : Int32) g50) fun g52 => bR (f_J28_parentOf γ y42 g52) fun v54 g53 => bR (f_J28_parentOf γ v54 g53) fun v56 g55 => bV ((if hK g55 x0 = 15 then f_J28_rotateRight γ x0 v56 g55 else none)) fun g57 => f_J28_fixAfterInsertion_L5 γ x0 n y42 g57) (fun (j44 : Nat → AH → Option (AH)) => (if x1 = v41 then bR (f_J28_parentOf γ x1 g40) fun v59 g58 => bV ((if hK g58 x0 = 15 then f_J28_rotateLeft γ x0 v59 g58 else none)) fun g60 => j44 v59 g60 else j44 x1 g40))) else bR (f_J28_parentOf γ x1 g15) fun v62 g61 => bR (f_J28_parentOf γ v62 g61) fun v64 g63 => bR (f_J28_leftOf γ v64 g63) fun v66 g65 => bI (f_J28_colorOf γ v66 g65) fun v68 g67 => (if v68 = 0 then bR (f_J28_parentOf γ x1 g67) fun v70 g69 => bV (f_J28_setColor γ v70 (1 : Int32) g69) fun g71 => bV (f_J28_setColor γ v66 (1 : Int32) g71) fun g72 => bR (f_J28_parentOf γ x1 g72) fun v74 g73 => bR (f_J28_parentOf γ v74 g73) fun v76 g75 => bV (f_J28_setColor γ v76 (0 : Int32) g75) fun g77 => bR (f_J28_parentOf γ x1 g77) fun v79 g78 => bR (f_J28_parentOf γ v79 g78) fun v81 g80 => f_J28_fixAfterInsertion_L5 γ x0 n v81 g80 else bR (f_J28_parentOf γ x1 g67) fun v83 g82 => bR (f_J28_leftOf γ v83 g82) fun v85 g84 => jn (fun (y86 : Nat) (g87 : AH) => bR (f_J28_parentOf γ y86 g87) fun v90 g89 => bV (f_J28_setColor γ v90 (1 : Int32) g89) fun g91 => bR (f_J28_parentOf γ y86 g91) fun v93 g92 => bR (f_J28_parentOf γ v93 g92) fun v95 g94 => bV (f_J28_setColor γ v95 (0 : Int32) g94) fun g96 => bR (f_J28_parentOf γ y86 g96) fun v98 g97 => bR (f_J28_parentOf γ v98 g97) fun v100 g99 => bV ((if hK g99 x0 = 15 then f_J28_rotateLeft γ x0 v100 g99 else none)) fun g101 => f_J28_fixAfterInsertion_L5 γ x0 n y86 g101) (fun (j88 : Nat → AH → Option (AH)) => (if x1 = v85 then bR (f_J28_parentOf γ x1 g84) fun v103 g102 => bV ((if hK g102 x0 = 15 then f_J28_rotateRight γ x0 v103 g102 else none)) fun g104 => j88 v103 g104 else j88 x1 g84)))) else gR g x0 70 fun v105 => pI γ g v105 102 (1 : Int32) fun g106 => (some g106))))
def f_J28_fixAfterInsertion (γ : GP) (x0 : Nat) (x1 : Nat) (g : AH) : Option (AH) := pI γ g x1 102 (0 : Int32) fun g1 => f_J28_fixAfterInsertion_L5 γ x0 FU x1 g1
theorem f_J28_fixAfterInsertion_L5_w (γ : GP) (l : Launch) (hl : l.stackTraces = false) (G0 : AH) (x0 : Nat) : ∀ (n : Nat) (x1 : Nat) (g : AH), AW ρV γ l ck_J28_fixAfterInsertion G0 5 [(0, .ref x0), (1, .ref x1)] [] g (f_J28_fixAfterInsertion_L5 γ x0 n x1 g) := by
  intro n
  induction n with
  | zero => intro x1 g; exact AW_none
  | succ n ih =>
    intro x1 g
    unfold f_J28_fixAfterInsertion_L5
    refine r_aload_n (pc := 5) dJ28_fixAfterInsertion_5 rfl 1 rfl ?_
    refine r_ifnull (tgt := 258) (pc := 6) dJ28_fixAfterInsertion_6 (by decide) ?_ ?_
    · skip
      refine r_aload_n (pc := 258) dJ28_fixAfterInsertion_258 rfl 0 rfl ?_
      refine r_getR (f := 70) (pc := 259) dJ28_fixAfterInsertion_259 q1425 (Or.inl rfl) rfl (fun v2 => ?_)
      refine r_iconst (v := (1 : Int32)) (pc := 262) dJ28_fixAfterInsertion_262 (by decide) ?_
      refine r_putI (f := 102) (pc := 263) dJ28_fixAfterInsertion_263 q1834 (Or.inl rfl) (Or.inl rfl) rfl (fun g3 => ?_)
      exact r_vret (pc := 266) dJ28_fixAfterInsertion_266 rfl
    · skip
      refine r_aload_n (pc := 9) dJ28_fixAfterInsertion_9 rfl 1 rfl ?_
      refine r_aload_n (pc := 10) dJ28_fixAfterInsertion_10 rfl 0 rfl ?_
      refine r_getR (f := 70) (pc := 11) dJ28_fixAfterInsertion_11 q1425 (Or.inl rfl) rfl (fun v4 => ?_)
      refine r_acmp_eq (tgt := 258) (pc := 14) dJ28_fixAfterInsertion_14 (by decide) ?_ ?_
      · skip
        refine r_aload_n (pc := 258) dJ28_fixAfterInsertion_258 rfl 0 rfl ?_
        refine r_getR (f := 70) (pc := 259) dJ28_fixAfterInsertion_259 q1425 (Or.inl rfl) rfl (fun v5 => ?_)
        refine r_iconst (v := (1 : Int32)) (pc := 262) dJ28_fixAfterInsertion_262 (by decide) ?_
        refine r_putI (f := 102) (pc := 263) dJ28_fixAfterInsertion_263 q1834 (Or.inl rfl) (Or.inl rfl) rfl (fun g6 => ?_)
        exact r_vret (pc := 266) dJ28_fixAfterInsertion_266 rfl
      · skip
        refine r_aload_n (pc := 17) dJ28_fixAfterInsertion_17 rfl 1 rfl ?_
        refine r_getR (f := 101) (pc := 18) dJ28_fixAfterInsertion_18 q1832 (Or.inl rfl) rfl (fun v7 => ?_)
        refine r_getI (f := 102) (pc := 21) dJ28_fixAfterInsertion_21 q1834 (Or.inl rfl) rfl (fun v8 => ?_)
        refine r_if_ne (tgt := 258) (pc := 24) dJ28_fixAfterInsertion_24 (by decide) ?_ ?_
        · skip
          refine r_aload_n (pc := 27) dJ28_fixAfterInsertion_27 rfl 1 rfl ?_
          refine r_cR (pc := 28) (rest := []) (run_S (n := 1) (As := [.ref x1]) (rest := []) (t_J28_parentOf γ l hl x1 g) dJ28_fixAfterInsertion_28 q1856 q1857 q143 q1858 (by decide +kernel) rfl (Nat.le_of_ble_eq_true rfl) (Nat.le_of_ble_eq_true rfl) rfl (Nat.le_of_ble_eq_true rfl)) (fun v10 g9 => ?_)
          refine r_aload_n (pc := 31) dJ28_fixAfterInsertion_31 rfl 1 rfl ?_
          refine r_cR (pc := 32) (rest := [.ref v10]) (run_S (n := 1) (As := [.ref x1]) (rest := [.ref v10]) (t_J28_parentOf γ l hl x1 g9) dJ28_fixAfterInsertion_32 q1856 q1857 q143 q1858 (by decide +kernel) rfl (Nat.le_of_ble_eq_true rfl) (Nat.le_of_ble_eq_true rfl) rfl (Nat.le_of_ble_eq_true rfl)) (fun v12 g11 => ?_)
          refine r_cR (pc := 35) (rest := [.ref v10]) (run_S (n := 1) (As := [.ref v12]) (rest := [.ref v10]) (t_J28_parentOf γ l hl v12 g11) dJ28_fixAfterInsertion_35 q1856 q1857 q143 q1858 (by decide +kernel) rfl (Nat.le_of_ble_eq_true rfl) (Nat.le_of_ble_eq_true rfl) rfl (Nat.le_of_ble_eq_true rfl)) (fun v14 g13 => ?_)
          refine r_cR (pc := 38) (rest := [.ref v10]) (run_S (n := 1) (As := [.ref v14]) (rest := [.ref v10]) (t_J28_leftOf γ l hl v14 g13) dJ28_fixAfterInsertion_38 q1859 q1860 q143 q1861 (by decide +kernel) rfl (Nat.le_of_ble_eq_true rfl) (Nat.le_of_ble_eq_true rfl) rfl (Nat.le_of_ble_eq_true rfl)) (fun v16 g15 => ?_)
          refine r_acmp_ne (tgt := 151) (pc := 41) dJ28_fixAfterInsertion_41 (by decide) ?_ ?_
          · skip
            refine r_aload_n (pc := 44) dJ28_fixAfterInsertion_44 rfl 1 rfl ?_
            refine r_cR (pc := 45) (rest := []) (run_S (n := 1) (As := [.ref x1]) (rest := []) (t_J28_parentOf γ l hl x1 g15) dJ28_fixAfterInsertion_45 q1856 q1857 q143 q1858 (by decide +kernel) rfl (Nat.le_of_ble_eq_true rfl) (Nat.le_of_ble_eq_true rfl) rfl (Nat.le_of_ble_eq_true rfl)) (fun v18 g17 => ?_)
            refine r_cR (pc := 48) (rest := []) (run_S (n := 1) (As := [.ref v18]) (rest := []) (t_J28_parentOf γ l hl v18 g17) dJ28_fixAfterInsertion_48 q1856 q1857 q143 q1858 (by decide +kernel) rfl (Nat.le_of_ble_eq_true rfl) (Nat.le_of_ble_eq_true rfl) rfl (Nat.le_of_ble_eq_true rfl)) (fun v20 g19 => ?_)
            refine r_cR (pc := 51) (rest := []) (run_S (n := 1) (As := [.ref v20]) (rest := []) (t_J28_rightOf γ l hl v20 g19) dJ28_fixAfterInsertion_51 q1862 q1863 q143 q1864 (by decide +kernel) rfl (Nat.le_of_ble_eq_true rfl) (Nat.le_of_ble_eq_true rfl) rfl (Nat.le_of_ble_eq_true rfl)) (fun v22 g21 => ?_)
            refine r_astore_n (pc := 54) dJ28_fixAfterInsertion_54 rfl (Nat.le_of_ble_eq_true rfl) rfl ?_
            refine r_aload_n (pc := 55) dJ28_fixAfterInsertion_55 rfl 0 rfl ?_
            refine r_cI (pc := 56) (rest := []) (run_S (n := 1) (As := [.ref v22]) (rest := []) (t_J28_colorOf γ l hl v22 g21) dJ28_fixAfterInsertion_56 q1865 q1866 q143 q1867 (by decide +kernel) rfl (Nat.le_of_ble_eq_true rfl) (Nat.le_of_ble_eq_true rfl) rfl (Nat.le_of_ble_eq_true rfl)) (fun v24 g23 => ?_)
            refine r_if_ne (tgt := 97) (pc := 59) dJ28_fixAfterInsertion_59 (by decide) ?_ ?_
            · skip
              refine r_aload_n (pc := 62) dJ28_fixAfterInsertion_62 rfl 2 rfl ?_
              refine r_cR (pc := 63) (rest := []) (run_S (n := 1) (As := [.ref x1]) (rest := []) (t_J28_parentOf γ l hl x1 g23) dJ28_fixAfterInsertion_63 q1856 q1857 q143 q1858 (by decide +kernel) rfl (Nat.le_of_ble_eq_true rfl) (Nat.le_of_ble_eq_true rfl) rfl (Nat.le_of_ble_eq_true rfl)) (fun v26 g25 => ?_)
              refine r_iconst (v := (1 : Int32)) (pc := 66) dJ28_fixAfterInsertion_66 (by decide) ?_
              refine r_cV (pc := 67) (rest := []) (run_S (n := 2) (As := [.ref v26, .int (1 : Int32)]) (rest := []) (t_J28_setColor γ l hl v26 (1 : Int32) g25) dJ28_fixAfterInsertion_67 q1868 q1869 q143 q1870 (by decide +kernel) rfl (Nat.le_of_ble_eq_true rfl) (Nat.le_of_ble_eq_true rfl) rfl (Nat.le_of_ble_eq_true rfl)) (fun g27 => ?_)
              refine r_aload_n (pc := 70) dJ28_fixAfterInsertion_70 rfl 0 rfl ?_
              refine r_iconst (v := (1 : Int32)) (pc := 71) dJ28_fixAfterInsertion_71 (by decide) ?_
              refine r_cV (pc := 72) (rest := []) (run_S (n := 2) (As := [.ref v22, .int (1 : Int32)]) (rest := []) (t_J28_setColor γ l hl v22 (1 : Int32) g27) dJ28_fixAfterInsertion_72 q1868 q1869 q143 q1870 (by decide +kernel) rfl (Nat.le_of_ble_eq_true rfl) (Nat.le_of_ble_eq_true rfl) rfl (Nat.le_of_ble_eq_true rfl)) (fun g28 => ?_)
              refine r_aload_n (pc := 75) dJ28_fixAfterInsertion_75 rfl 2 rfl ?_
              refine r_cR (pc := 76) (rest := []) (run_S (n := 1) (As := [.ref x1]) (rest := []) (t_J28_parentOf γ l hl x1 g28) dJ28_fixAfterInsertion_76 q1856 q1857 q143 q1858 (by decide +kernel) rfl (Nat.le_of_ble_eq_true rfl) (Nat.le_of_ble_eq_true rfl) rfl (Nat.le_of_ble_eq_true rfl)) (fun v30 g29 => ?_)
              refine r_cR (pc := 79) (rest := []) (run_S (n := 1) (As := [.ref v30]) (rest := []) (t_J28_parentOf γ l hl v30 g29) dJ28_fixAfterInsertion_79 q1856 q1857 q143 q1858 (by decide +kernel) rfl (Nat.le_of_ble_eq_true rfl) (Nat.le_of_ble_eq_true rfl) rfl (Nat.le_of_ble_eq_true rfl)) (fun v32 g31 => ?_)
              refine r_iconst (v := (0 : Int32)) (pc := 82) dJ28_fixAfterInsertion_82 (by decide) ?_
              refine r_cV (pc := 83) (rest := []) (run_S (n := 2) (As := [.ref v32, .int (0 : Int32)]) (rest := []) (t_J28_setColor γ l hl v32 (0 : Int32) g31) dJ28_fixAfterInsertion_83 q1868 q1869 q143 q1870 (by decide +kernel) rfl (Nat.le_of_ble_eq_true rfl) (Nat.le_of_ble_eq_true rfl) rfl (Nat.le_of_ble_eq_true rfl)) (fun g33 => ?_)
              refine r_aload_n (pc := 86) dJ28_fixAfterInsertion_86 rfl 2 rfl ?_
              refine r_cR (pc := 87) (rest := []) (run_S (n := 1) (As := [.ref x1]) (rest := []) (t_J28_parentOf γ l hl x1 g33) dJ28_fixAfterInsertion_87 q1856 q1857 q143 q1858 (by decide +kernel) rfl (Nat.le_of_ble_eq_true rfl) (Nat.le_of_ble_eq_true rfl) rfl (Nat.le_of_ble_eq_true rfl)) (fun v35 g34 => ?_)
              refine r_cR (pc := 90) (rest := []) (run_S (n := 1) (As := [.ref v35]) (rest := []) (t_J28_parentOf γ l hl v35 g34) dJ28_fixAfterInsertion_90 q1856 q1857 q143 q1858 (by decide +kernel) rfl (Nat.le_of_ble_eq_true rfl) (Nat.le_of_ble_eq_true rfl) rfl (Nat.le_of_ble_eq_true rfl)) (fun v37 g36 => ?_)
              refine r_astore_n (pc := 93) dJ28_fixAfterInsertion_93 rfl (Nat.le_of_ble_eq_true rfl) rfl ?_
              refine r_goto (tgt := 148) (pc := 94) dJ28_fixAfterInsertion_94 (by decide) ?_
              refine r_goto (tgt := 5) (pc := 148) dJ28_fixAfterInsertion_148 (by decide) ?_
              refine AW_sub [2, 0] rfl ?_
              exact ih v37 g36
            · skip
              refine r_aload_n (pc := 97) dJ28_fixAfterInsertion_97 rfl 2 rfl ?_
              refine r_aload_n (pc := 98) dJ28_fixAfterInsertion_98 rfl 2 rfl ?_
              refine r_cR (pc := 99) (rest := [.ref x1]) (run_S (n := 1) (As := [.ref x1]) (rest := [.ref x1]) (t_J28_parentOf γ l hl x1 g23) dJ28_fixAfterInsertion_99 q1856 q1857 q143 q1858 (by decide +kernel) rfl (Nat.le_of_ble_eq_true rfl) (Nat.le_of_ble_eq_true rfl) rfl (Nat.le_of_ble_eq_true rfl)) (fun v39 g38 => ?_)
              refine r_cR (pc := 102) (rest := [.ref x1]) (run_S (n := 1) (As := [.ref v39]) (rest := [.ref x1]) (t_J28_rightOf γ l hl v39 g38) dJ28_fixAfterInsertion_102 q1862 q1863 q143 q1864 (by decide +kernel) rfl (Nat.le_of_ble_eq_true rfl) (Nat.le_of_ble_eq_true rfl) rfl (Nat.le_of_ble_eq_true rfl)) (fun v41 g40 => ?_)
              refine AW_jn (P := fun (j : Nat → AH → Option (AH)) => ∀ (y42 : Nat) (g43 : AH), AW ρV γ l ck_J28_fixAfterInsertion G0 118 [(0, .ref x0), (1, .ref y42)] [] g43 (j y42 g43)) (fun y42 g43 => ?_) (fun j44 h_j44 => ?_)
              · skip
                refine r_aload_n (pc := 118) dJ28_fixAfterInsertion_118 rfl 1 rfl ?_
                refine r_cR (pc := 119) (rest := []) (run_S (n := 1) (As := [.ref y42]) (rest := []) (t_J28_parentOf γ l hl y42 g43) dJ28_fixAfterInsertion_119 q1856 q1857 q143 q1858 (by decide +kernel) rfl (Nat.le_of_ble_eq_true rfl) (Nat.le_of_ble_eq_true rfl) rfl (Nat.le_of_ble_eq_true rfl)) (fun v46 g45 => ?_)
                refine r_iconst (v := (1 : Int32)) (pc := 122) dJ28_fixAfterInsertion_122 (by decide) ?_
                refine r_cV (pc := 123) (rest := []) (run_S (n := 2) (As := [.ref v46, .int (1 : Int32)]) (rest := []) (t_J28_setColor γ l hl v46 (1 : Int32) g45) dJ28_fixAfterInsertion_123 q1868 q1869 q143 q1870 (by decide +kernel) rfl (Nat.le_of_ble_eq_true rfl) (Nat.le_of_ble_eq_true rfl) rfl (Nat.le_of_ble_eq_true rfl)) (fun g47 => ?_)
                refine r_aload_n (pc := 126) dJ28_fixAfterInsertion_126 rfl 1 rfl ?_
                refine r_cR (pc := 127) (rest := []) (run_S (n := 1) (As := [.ref y42]) (rest := []) (t_J28_parentOf γ l hl y42 g47) dJ28_fixAfterInsertion_127 q1856 q1857 q143 q1858 (by decide +kernel) rfl (Nat.le_of_ble_eq_true rfl) (Nat.le_of_ble_eq_true rfl) rfl (Nat.le_of_ble_eq_true rfl)) (fun v49 g48 => ?_)
                refine r_cR (pc := 130) (rest := []) (run_S (n := 1) (As := [.ref v49]) (rest := []) (t_J28_parentOf γ l hl v49 g48) dJ28_fixAfterInsertion_130 q1856 q1857 q143 q1858 (by decide +kernel) rfl (Nat.le_of_ble_eq_true rfl) (Nat.le_of_ble_eq_true rfl) rfl (Nat.le_of_ble_eq_true rfl)) (fun v51 g50 => ?_)
                refine r_iconst (v := (0 : Int32)) (pc := 133) dJ28_fixAfterInsertion_133 (by decide) ?_
                refine r_cV (pc := 134) (rest := []) (run_S (n := 2) (As := [.ref v51, .int (0 : Int32)]) (rest := []) (t_J28_setColor γ l hl v51 (0 : Int32) g50) dJ28_fixAfterInsertion_134 q1868 q1869 q143 q1870 (by decide +kernel) rfl (Nat.le_of_ble_eq_true rfl) (Nat.le_of_ble_eq_true rfl) rfl (Nat.le_of_ble_eq_true rfl)) (fun g52 => ?_)
                refine r_aload_n (pc := 137) dJ28_fixAfterInsertion_137 rfl 0 rfl ?_
                refine r_aload_n (pc := 138) dJ28_fixAfterInsertion_138 rfl 1 rfl ?_
                refine r_cR (pc := 139) (rest := [.ref x0]) (run_S (n := 1) (As := [.ref y42]) (rest := [.ref x0]) (t_J28_parentOf γ l hl y42 g52) dJ28_fixAfterInsertion_139 q1856 q1857 q143 q1858 (by decide +kernel) rfl (Nat.le_of_ble_eq_true rfl) (Nat.le_of_ble_eq_true rfl) rfl (Nat.le_of_ble_eq_true rfl)) (fun v54 g53 => ?_)
                refine r_cR (pc := 142) (rest := [.ref x0]) (run_S (n := 1) (As := [.ref v54]) (rest := [.ref x0]) (t_J28_parentOf γ l hl v54 g53) dJ28_fixAfterInsertion_142 q1856 q1857 q143 q1858 (by decide +kernel) rfl (Nat.le_of_ble_eq_true rfl) (Nat.le_of_ble_eq_true rfl) rfl (Nat.le_of_ble_eq_true rfl)) (fun v56 g55 => ?_)
                refine r_cV (pc := 145) (rest := []) (RunOK_chk (fun h => run_V (n := 1) (c9 := 15) (As := [.ref v56]) (rest := []) (t_J28_rotateRight γ l hl x0 v56 g55) dJ28_fixAfterInsertion_145 q1875 q1877 qs16 q143 q1878 (by decide +kernel) rfl h ⟨rfl, by decide, by decide⟩ (Nat.le_of_ble_eq_true rfl) (Nat.le_of_ble_eq_true rfl) rfl (Nat.le_of_ble_eq_true rfl))) (fun g57 => ?_)
                refine r_goto (tgt := 5) (pc := 148) dJ28_fixAfterInsertion_148 (by decide) ?_
                exact ih y42 g57
              · skip
                refine r_acmp_ne (tgt := 118) (pc := 105) dJ28_fixAfterInsertion_105 (by decide) ?_ ?_
                · skip
                  refine r_aload_n (pc := 108) dJ28_fixAfterInsertion_108 rfl 2 rfl ?_
                  refine r_cR (pc := 109) (rest := []) (run_S (n := 1) (As := [.ref x1]) (rest := []) (t_J28_parentOf γ l hl x1 g40) dJ28_fixAfterInsertion_109 q1856 q1857 q143 q1858 (by decide +kernel) rfl (Nat.le_of_ble_eq_true rfl) (Nat.le_of_ble_eq_true rfl) rfl (Nat.le_of_ble_eq_true rfl)) (fun v59 g58 => ?_)
                  refine r_astore_n (pc := 112) dJ28_fixAfterInsertion_112 rfl (Nat.le_of_ble_eq_true rfl) rfl ?_
                  refine r_aload_n (pc := 113) dJ28_fixAfterInsertion_113 rfl 2 rfl ?_
                  refine r_aload_n (pc := 114) dJ28_fixAfterInsertion_114 rfl 0 rfl ?_
                  refine r_cV (pc := 115) (rest := []) (RunOK_chk (fun h => run_V (n := 1) (c9 := 15) (As := [.ref v59]) (rest := []) (t_J28_rotateLeft γ l hl x0 v59 g58) dJ28_fixAfterInsertion_115 q1871 q1873 qs15 q143 q1874 (by decide +kernel) rfl h ⟨rfl, by decide, by decide⟩ (Nat.le_of_ble_eq_true rfl) (Nat.le_of_ble_eq_true rfl) rfl (Nat.le_of_ble_eq_true rfl))) (fun g60 => ?_)
                  refine AW_sub [2, 0] rfl ?_
                  exact h_j44 v59 g60
                · skip
                  refine AW_sub [1, 2] rfl ?_
                  exact h_j44 x1 g40
          · skip
            refine r_aload_n (pc := 151) dJ28_fixAfterInsertion_151 rfl 1 rfl ?_
            refine r_cR (pc := 152) (rest := []) (run_S (n := 1) (As := [.ref x1]) (rest := []) (t_J28_parentOf γ l hl x1 g15) dJ28_fixAfterInsertion_152 q1856 q1857 q143 q1858 (by decide +kernel) rfl (Nat.le_of_ble_eq_true rfl) (Nat.le_of_ble_eq_true rfl) rfl (Nat.le_of_ble_eq_true rfl)) (fun v62 g61 => ?_)
            refine r_cR (pc := 155) (rest := []) (run_S (n := 1) (As := [.ref v62]) (rest := []) (t_J28_parentOf γ l hl v62 g61) dJ28_fixAfterInsertion_155 q1856 q1857 q143 q1858 (by decide +kernel) rfl (Nat.le_of_ble_eq_true rfl) (Nat.le_of_ble_eq_true rfl) rfl (Nat.le_of_ble_eq_true rfl)) (fun v64 g63 => ?_)
            refine r_cR (pc := 158) (rest := []) (run_S (n := 1) (As := [.ref v64]) (rest := []) (t_J28_leftOf γ l hl v64 g63) dJ28_fixAfterInsertion_158 q1859 q1860 q143 q1861 (by decide +kernel) rfl (Nat.le_of_ble_eq_true rfl) (Nat.le_of_ble_eq_true rfl) rfl (Nat.le_of_ble_eq_true rfl)) (fun v66 g65 => ?_)
            refine r_astore_n (pc := 161) dJ28_fixAfterInsertion_161 rfl (Nat.le_of_ble_eq_true rfl) rfl ?_
            refine r_aload_n (pc := 162) dJ28_fixAfterInsertion_162 rfl 0 rfl ?_
            refine r_cI (pc := 163) (rest := []) (run_S (n := 1) (As := [.ref v66]) (rest := []) (t_J28_colorOf γ l hl v66 g65) dJ28_fixAfterInsertion_163 q1865 q1866 q143 q1867 (by decide +kernel) rfl (Nat.le_of_ble_eq_true rfl) (Nat.le_of_ble_eq_true rfl) rfl (Nat.le_of_ble_eq_true rfl)) (fun v68 g67 => ?_)
            refine r_if_ne (tgt := 204) (pc := 166) dJ28_fixAfterInsertion_166 (by decide) ?_ ?_
            · skip
              refine r_aload_n (pc := 169) dJ28_fixAfterInsertion_169 rfl 2 rfl ?_
              refine r_cR (pc := 170) (rest := []) (run_S (n := 1) (As := [.ref x1]) (rest := []) (t_J28_parentOf γ l hl x1 g67) dJ28_fixAfterInsertion_170 q1856 q1857 q143 q1858 (by decide +kernel) rfl (Nat.le_of_ble_eq_true rfl) (Nat.le_of_ble_eq_true rfl) rfl (Nat.le_of_ble_eq_true rfl)) (fun v70 g69 => ?_)
              refine r_iconst (v := (1 : Int32)) (pc := 173) dJ28_fixAfterInsertion_173 (by decide) ?_
              refine r_cV (pc := 174) (rest := []) (run_S (n := 2) (As := [.ref v70, .int (1 : Int32)]) (rest := []) (t_J28_setColor γ l hl v70 (1 : Int32) g69) dJ28_fixAfterInsertion_174 q1868 q1869 q143 q1870 (by decide +kernel) rfl (Nat.le_of_ble_eq_true rfl) (Nat.le_of_ble_eq_true rfl) rfl (Nat.le_of_ble_eq_true rfl)) (fun g71 => ?_)
              refine r_aload_n (pc := 177) dJ28_fixAfterInsertion_177 rfl 0 rfl ?_
              refine r_iconst (v := (1 : Int32)) (pc := 178) dJ28_fixAfterInsertion_178 (by decide) ?_
              refine r_cV (pc := 179) (rest := []) (run_S (n := 2) (As := [.ref v66, .int (1 : Int32)]) (rest := []) (t_J28_setColor γ l hl v66 (1 : Int32) g71) dJ28_fixAfterInsertion_179 q1868 q1869 q143 q1870 (by decide +kernel) rfl (Nat.le_of_ble_eq_true rfl) (Nat.le_of_ble_eq_true rfl) rfl (Nat.le_of_ble_eq_true rfl)) (fun g72 => ?_)
              refine r_aload_n (pc := 182) dJ28_fixAfterInsertion_182 rfl 2 rfl ?_
              refine r_cR (pc := 183) (rest := []) (run_S (n := 1) (As := [.ref x1]) (rest := []) (t_J28_parentOf γ l hl x1 g72) dJ28_fixAfterInsertion_183 q1856 q1857 q143 q1858 (by decide +kernel) rfl (Nat.le_of_ble_eq_true rfl) (Nat.le_of_ble_eq_true rfl) rfl (Nat.le_of_ble_eq_true rfl)) (fun v74 g73 => ?_)
              refine r_cR (pc := 186) (rest := []) (run_S (n := 1) (As := [.ref v74]) (rest := []) (t_J28_parentOf γ l hl v74 g73) dJ28_fixAfterInsertion_186 q1856 q1857 q143 q1858 (by decide +kernel) rfl (Nat.le_of_ble_eq_true rfl) (Nat.le_of_ble_eq_true rfl) rfl (Nat.le_of_ble_eq_true rfl)) (fun v76 g75 => ?_)
              refine r_iconst (v := (0 : Int32)) (pc := 189) dJ28_fixAfterInsertion_189 (by decide) ?_
              refine r_cV (pc := 190) (rest := []) (run_S (n := 2) (As := [.ref v76, .int (0 : Int32)]) (rest := []) (t_J28_setColor γ l hl v76 (0 : Int32) g75) dJ28_fixAfterInsertion_190 q1868 q1869 q143 q1870 (by decide +kernel) rfl (Nat.le_of_ble_eq_true rfl) (Nat.le_of_ble_eq_true rfl) rfl (Nat.le_of_ble_eq_true rfl)) (fun g77 => ?_)
              refine r_aload_n (pc := 193) dJ28_fixAfterInsertion_193 rfl 2 rfl ?_
              refine r_cR (pc := 194) (rest := []) (run_S (n := 1) (As := [.ref x1]) (rest := []) (t_J28_parentOf γ l hl x1 g77) dJ28_fixAfterInsertion_194 q1856 q1857 q143 q1858 (by decide +kernel) rfl (Nat.le_of_ble_eq_true rfl) (Nat.le_of_ble_eq_true rfl) rfl (Nat.le_of_ble_eq_true rfl)) (fun v79 g78 => ?_)
              refine r_cR (pc := 197) (rest := []) (run_S (n := 1) (As := [.ref v79]) (rest := []) (t_J28_parentOf γ l hl v79 g78) dJ28_fixAfterInsertion_197 q1856 q1857 q143 q1858 (by decide +kernel) rfl (Nat.le_of_ble_eq_true rfl) (Nat.le_of_ble_eq_true rfl) rfl (Nat.le_of_ble_eq_true rfl)) (fun v81 g80 => ?_)
              refine r_astore_n (pc := 200) dJ28_fixAfterInsertion_200 rfl (Nat.le_of_ble_eq_true rfl) rfl ?_
              refine r_goto (tgt := 255) (pc := 201) dJ28_fixAfterInsertion_201 (by decide) ?_
              refine r_goto (tgt := 5) (pc := 255) dJ28_fixAfterInsertion_255 (by decide) ?_
              refine AW_sub [2, 0] rfl ?_
              exact ih v81 g80
            · skip
              refine r_aload_n (pc := 204) dJ28_fixAfterInsertion_204 rfl 2 rfl ?_
              refine r_aload_n (pc := 205) dJ28_fixAfterInsertion_205 rfl 2 rfl ?_
              refine r_cR (pc := 206) (rest := [.ref x1]) (run_S (n := 1) (As := [.ref x1]) (rest := [.ref x1]) (t_J28_parentOf γ l hl x1 g67) dJ28_fixAfterInsertion_206 q1856 q1857 q143 q1858 (by decide +kernel) rfl (Nat.le_of_ble_eq_true rfl) (Nat.le_of_ble_eq_true rfl) rfl (Nat.le_of_ble_eq_true rfl)) (fun v83 g82 => ?_)
              refine r_cR (pc := 209) (rest := [.ref x1]) (run_S (n := 1) (As := [.ref v83]) (rest := [.ref x1]) (t_J28_leftOf γ l hl v83 g82) dJ28_fixAfterInsertion_209 q1859 q1860 q143 q1861 (by decide +kernel) rfl (Nat.le_of_ble_eq_true rfl) (Nat.le_of_ble_eq_true rfl) rfl (Nat.le_of_ble_eq_true rfl)) (fun v85 g84 => ?_)
              refine AW_jn (P := fun (j : Nat → AH → Option (AH)) => ∀ (y86 : Nat) (g87 : AH), AW ρV γ l ck_J28_fixAfterInsertion G0 225 [(0, .ref x0), (1, .ref y86)] [] g87 (j y86 g87)) (fun y86 g87 => ?_) (fun j88 h_j88 => ?_)
              · skip
                refine r_aload_n (pc := 225) dJ28_fixAfterInsertion_225 rfl 1 rfl ?_
                refine r_cR (pc := 226) (rest := []) (run_S (n := 1) (As := [.ref y86]) (rest := []) (t_J28_parentOf γ l hl y86 g87) dJ28_fixAfterInsertion_226 q1856 q1857 q143 q1858 (by decide +kernel) rfl (Nat.le_of_ble_eq_true rfl) (Nat.le_of_ble_eq_true rfl) rfl (Nat.le_of_ble_eq_true rfl)) (fun v90 g89 => ?_)
                refine r_iconst (v := (1 : Int32)) (pc := 229) dJ28_fixAfterInsertion_229 (by decide) ?_
                refine r_cV (pc := 230) (rest := []) (run_S (n := 2) (As := [.ref v90, .int (1 : Int32)]) (rest := []) (t_J28_setColor γ l hl v90 (1 : Int32) g89) dJ28_fixAfterInsertion_230 q1868 q1869 q143 q1870 (by decide +kernel) rfl (Nat.le_of_ble_eq_true rfl) (Nat.le_of_ble_eq_true rfl) rfl (Nat.le_of_ble_eq_true rfl)) (fun g91 => ?_)
                refine r_aload_n (pc := 233) dJ28_fixAfterInsertion_233 rfl 1 rfl ?_
                refine r_cR (pc := 234) (rest := []) (run_S (n := 1) (As := [.ref y86]) (rest := []) (t_J28_parentOf γ l hl y86 g91) dJ28_fixAfterInsertion_234 q1856 q1857 q143 q1858 (by decide +kernel) rfl (Nat.le_of_ble_eq_true rfl) (Nat.le_of_ble_eq_true rfl) rfl (Nat.le_of_ble_eq_true rfl)) (fun v93 g92 => ?_)
                refine r_cR (pc := 237) (rest := []) (run_S (n := 1) (As := [.ref v93]) (rest := []) (t_J28_parentOf γ l hl v93 g92) dJ28_fixAfterInsertion_237 q1856 q1857 q143 q1858 (by decide +kernel) rfl (Nat.le_of_ble_eq_true rfl) (Nat.le_of_ble_eq_true rfl) rfl (Nat.le_of_ble_eq_true rfl)) (fun v95 g94 => ?_)
                refine r_iconst (v := (0 : Int32)) (pc := 240) dJ28_fixAfterInsertion_240 (by decide) ?_
                refine r_cV (pc := 241) (rest := []) (run_S (n := 2) (As := [.ref v95, .int (0 : Int32)]) (rest := []) (t_J28_setColor γ l hl v95 (0 : Int32) g94) dJ28_fixAfterInsertion_241 q1868 q1869 q143 q1870 (by decide +kernel) rfl (Nat.le_of_ble_eq_true rfl) (Nat.le_of_ble_eq_true rfl) rfl (Nat.le_of_ble_eq_true rfl)) (fun g96 => ?_)
                refine r_aload_n (pc := 244) dJ28_fixAfterInsertion_244 rfl 0 rfl ?_
                refine r_aload_n (pc := 245) dJ28_fixAfterInsertion_245 rfl 1 rfl ?_
                refine r_cR (pc := 246) (rest := [.ref x0]) (run_S (n := 1) (As := [.ref y86]) (rest := [.ref x0]) (t_J28_parentOf γ l hl y86 g96) dJ28_fixAfterInsertion_246 q1856 q1857 q143 q1858 (by decide +kernel) rfl (Nat.le_of_ble_eq_true rfl) (Nat.le_of_ble_eq_true rfl) rfl (Nat.le_of_ble_eq_true rfl)) (fun v98 g97 => ?_)
                refine r_cR (pc := 249) (rest := [.ref x0]) (run_S (n := 1) (As := [.ref v98]) (rest := [.ref x0]) (t_J28_parentOf γ l hl v98 g97) dJ28_fixAfterInsertion_249 q1856 q1857 q143 q1858 (by decide +kernel) rfl (Nat.le_of_ble_eq_true rfl) (Nat.le_of_ble_eq_true rfl) rfl (Nat.le_of_ble_eq_true rfl)) (fun v100 g99 => ?_)
                refine r_cV (pc := 252) (rest := []) (RunOK_chk (fun h => run_V (n := 1) (c9 := 15) (As := [.ref v100]) (rest := []) (t_J28_rotateLeft γ l hl x0 v100 g99) dJ28_fixAfterInsertion_252 q1871 q1873 qs15 q143 q1874 (by decide +kernel) rfl h ⟨rfl, by decide, by decide⟩ (Nat.le_of_ble_eq_true rfl) (Nat.le_of_ble_eq_true rfl) rfl (Nat.le_of_ble_eq_true rfl))) (fun g101 => ?_)
                refine r_goto (tgt := 5) (pc := 255) dJ28_fixAfterInsertion_255 (by decide) ?_
                exact ih y86 g101
              · skip
                refine r_acmp_ne (tgt := 225) (pc := 212) dJ28_fixAfterInsertion_212 (by decide) ?_ ?_
                · skip
                  refine r_aload_n (pc := 215) dJ28_fixAfterInsertion_215 rfl 2 rfl ?_
                  refine r_cR (pc := 216) (rest := []) (run_S (n := 1) (As := [.ref x1]) (rest := []) (t_J28_parentOf γ l hl x1 g84) dJ28_fixAfterInsertion_216 q1856 q1857 q143 q1858 (by decide +kernel) rfl (Nat.le_of_ble_eq_true rfl) (Nat.le_of_ble_eq_true rfl) rfl (Nat.le_of_ble_eq_true rfl)) (fun v103 g102 => ?_)
                  refine r_astore_n (pc := 219) dJ28_fixAfterInsertion_219 rfl (Nat.le_of_ble_eq_true rfl) rfl ?_
                  refine r_aload_n (pc := 220) dJ28_fixAfterInsertion_220 rfl 2 rfl ?_
                  refine r_aload_n (pc := 221) dJ28_fixAfterInsertion_221 rfl 0 rfl ?_
                  refine r_cV (pc := 222) (rest := []) (RunOK_chk (fun h => run_V (n := 1) (c9 := 15) (As := [.ref v103]) (rest := []) (t_J28_rotateRight γ l hl x0 v103 g102) dJ28_fixAfterInsertion_222 q1875 q1877 qs16 q143 q1878 (by decide +kernel) rfl h ⟨rfl, by decide, by decide⟩ (Nat.le_of_ble_eq_true rfl) (Nat.le_of_ble_eq_true rfl) rfl (Nat.le_of_ble_eq_true rfl))) (fun g104 => ?_)
                  refine AW_sub [2, 0] rfl ?_
                  exact h_j88 v103 g104
                · skip
                  refine AW_sub [1, 2] rfl ?_
                  exact h_j88 x1 g84
        · skip
          refine r_aload_n (pc := 258) dJ28_fixAfterInsertion_258 rfl 0 rfl ?_
          refine r_getR (f := 70) (pc := 259) dJ28_fixAfterInsertion_259 q1425 (Or.inl rfl) rfl (fun v105 => ?_)
          refine r_iconst (v := (1 : Int32)) (pc := 262) dJ28_fixAfterInsertion_262 (by decide) ?_
          refine r_putI (f := 102) (pc := 263) dJ28_fixAfterInsertion_263 q1834 (Or.inl rfl) (Or.inl rfl) rfl (fun g106 => ?_)
          exact r_vret (pc := 266) dJ28_fixAfterInsertion_266 rfl
theorem t_J28_fixAfterInsertion (γ : GP) (l : Launch) (hl : l.stackTraces = false) (x0 : Nat) (x1 : Nat) (g : AH) : TrM ρV γ l ⟨"java/util/TreeMap", "fixAfterInsertion", "(Ljava/util/TreeMap$Entry;)V"⟩ (ws_ ⟨"java/util/TreeMap", "fixAfterInsertion", "(Ljava/util/TreeMap$Entry;)V"⟩ prog_93_method_83_code 3 none) 2 [.ref x0, .ref x1] g (f_J28_fixAfterInsertion γ x0 x1 g) := by
  refine TrM_of (plainFor_of_name (by decide)) (Nat.le_of_ble_eq_true rfl) ?_
  unfold f_J28_fixAfterInsertion
  change AW ρV γ l ck_J28_fixAfterInsertion g 0 [(0, .ref x0), (1, .ref x1)] [] g _
  refine r_aload_n (pc := 0) dJ28_fixAfterInsertion_0 rfl 1 rfl ?_
  refine r_iconst (v := (0 : Int32)) (pc := 1) dJ28_fixAfterInsertion_1 (by decide) ?_
  refine r_putI (f := 102) (pc := 2) dJ28_fixAfterInsertion_2 q1834 (Or.inl rfl) (Or.inl rfl) rfl (fun g1 => ?_)
  refine f_J28_fixAfterInsertion_L5_w γ l hl _ x0 FU x1 g1
abbrev ck_J28_addEntry : CK := ("java/util/TreeMap", prog_93_method_29_code, 6, none, "addEntry", [], 3)
def f_J28_addEntry (γ : GP) (x0 : Nat) (x1 : Nat) (x2 : Nat) (x3 : Nat) (x4 : Int32) (g : AH) : Option (AH) := mO g 23 fun q1 g2 => bV ((if q1 ≠ 0 then f_J39_init γ q1 x1 x2 x3 g2 else none)) fun g3 => jn (fun (g4 : AH) => bV ((if hK g4 x0 = 15 then f_J28_fixAfterInsertion γ x0 q1 g4 else none)) fun g6 => gI g6 x0 71 fun v7 => pI γ g6 x0 71 (v7 + (1 : Int32)) fun g8 => gI g8 x0 72 fun v9 => pI γ g8 x0 72 (v9 + (1 : Int32)) fun g10 => (some g10)) (fun (j5 : AH → Option (AH)) => (if x4 = 0 then pR γ g3 x3 100 q1 fun g11 => j5 g11 else pR γ g3 x3 99 q1 fun g12 => j5 g12))
theorem t_J28_addEntry (γ : GP) (l : Launch) (hl : l.stackTraces = false) (x0 : Nat) (x1 : Nat) (x2 : Nat) (x3 : Nat) (x4 : Int32) (g : AH) : TrM ρV γ l ⟨"java/util/TreeMap", "addEntry", "(Ljava/lang/Object;Ljava/lang/Object;Ljava/util/TreeMap$Entry;Z)V"⟩ (ws_ ⟨"java/util/TreeMap", "addEntry", "(Ljava/lang/Object;Ljava/lang/Object;Ljava/util/TreeMap$Entry;Z)V"⟩ prog_93_method_29_code 6 none) 3 [.ref x0, .ref x1, .ref x2, .ref x3, .int x4] g (f_J28_addEntry γ x0 x1 x2 x3 x4 g) := by
  refine TrM_of (plainFor_of_name (by decide)) (Nat.le_of_ble_eq_true rfl) ?_
  unfold f_J28_addEntry
  change AW ρV γ l ck_J28_addEntry g 0 [(0, .ref x0), (1, .ref x1), (2, .ref x2), (3, .ref x3), (4, .int x4)] [] g _
  refine r_new (c := 23) (pc := 0) dJ28_addEntry_0 q1817 (by decide) (by decide) (fun q1 g2 => ?_)
  refine r_dup (pc := 3) dJ28_addEntry_3 rfl ?_
  refine r_aload_n (pc := 4) dJ28_addEntry_4 rfl 1 rfl ?_
  refine r_aload_n (pc := 5) dJ28_addEntry_5 rfl 2 rfl ?_
  refine r_aload_n (pc := 6) dJ28_addEntry_6 rfl 3 rfl ?_
  refine r_cV (pc := 7) (rest := [.ref q1]) (RunOK_chk (fun h => run_I (n := 3) (As := [.ref x1, .ref x2, .ref x3]) (rest := [.ref q1]) (t_J39_init γ l hl q1 x1 x2 x3 g2) dJ28_addEntry_7 q1819 q1820 q160 q1821 rfl (by decide +kernel) rfl h (Nat.le_of_ble_eq_true rfl) (Nat.le_of_ble_eq_true rfl) rfl (Nat.le_of_ble_eq_true rfl))) (fun g3 => ?_)
  refine r_astore (pc := 10) dJ28_addEntry_10 (Nat.le_of_ble_eq_true rfl) rfl ?_
  refine r_iload (pc := 12) dJ28_addEntry_12 5 rfl ?_
  refine AW_jn (P := fun (j : AH → Option (AH)) => ∀ (g4 : AH), AW ρV γ l ck_J28_addEntry g 32 [(0, .ref x0), (5, .ref q1)] [] g4 (j g4)) (fun g4 => ?_) (fun j5 h_j5 => ?_)
  · skip
    refine r_aload_n (pc := 32) dJ28_addEntry_32 rfl 0 rfl ?_
    refine r_aload (pc := 33) dJ28_addEntry_33 1 rfl ?_
    refine r_cV (pc := 35) (rest := []) (RunOK_chk (fun h => run_V (n := 1) (c9 := 15) (As := [.ref q1]) (rest := []) (t_J28_fixAfterInsertion γ l hl x0 q1 g4) dJ28_addEntry_35 q1852 q1854 qs14 q143 q1855 (by decide +kernel) rfl h ⟨rfl, by decide, by decide⟩ (Nat.le_of_ble_eq_true rfl) (Nat.le_of_ble_eq_true rfl) rfl (Nat.le_of_ble_eq_true rfl))) (fun g6 => ?_)
    refine r_aload_n (pc := 38) dJ28_addEntry_38 rfl 0 rfl ?_
    refine r_dup (pc := 39) dJ28_addEntry_39 rfl ?_
    refine r_getI (f := 71) (pc := 40) dJ28_addEntry_40 q1426 (Or.inl rfl) rfl (fun v7 => ?_)
    refine r_iconst (v := (1 : Int32)) (pc := 43) dJ28_addEntry_43 (by decide) ?_
    refine r_iadd (pc := 44) dJ28_addEntry_44 ?_
    refine r_putI (f := 71) (pc := 45) dJ28_addEntry_45 q1426 (Or.inl rfl) (Or.inl rfl) rfl (fun g8 => ?_)
    refine r_aload_n (pc := 48) dJ28_addEntry_48 rfl 0 rfl ?_
    refine r_dup (pc := 49) dJ28_addEntry_49 rfl ?_
    refine r_getI (f := 72) (pc := 50) dJ28_addEntry_50 q1428 (Or.inl rfl) rfl (fun v9 => ?_)
    refine r_iconst (v := (1 : Int32)) (pc := 53) dJ28_addEntry_53 (by decide) ?_
    refine r_iadd (pc := 54) dJ28_addEntry_54 ?_
    refine r_putI (f := 72) (pc := 55) dJ28_addEntry_55 q1428 (Or.inl rfl) (Or.inl rfl) rfl (fun g10 => ?_)
    exact r_vret (pc := 58) dJ28_addEntry_58 rfl
  · skip
    refine r_if_eq (tgt := 26) (pc := 14) dJ28_addEntry_14 (by decide) ?_ ?_
    · skip
      refine r_aload_n (pc := 26) dJ28_addEntry_26 rfl 4 rfl ?_
      refine r_aload (pc := 27) dJ28_addEntry_27 0 rfl ?_
      refine r_putR (f := 100) (pc := 29) dJ28_addEntry_29 q1830 (Or.inl rfl) (Or.inl rfl) rfl (fun g11 => ?_)
      refine AW_sub [1, 0] rfl ?_
      exact h_j5 g11
    · skip
      refine r_aload_n (pc := 17) dJ28_addEntry_17 rfl 4 rfl ?_
      refine r_aload (pc := 18) dJ28_addEntry_18 0 rfl ?_
      refine r_putR (f := 99) (pc := 20) dJ28_addEntry_20 q1829 (Or.inl rfl) (Or.inl rfl) rfl (fun g12 => ?_)
      refine r_goto (tgt := 32) (pc := 23) dJ28_addEntry_23 (by decide) ?_
      refine AW_sub [1, 0] rfl ?_
      exact h_j5 g12
abbrev ck_J28_put_2 : CK := ("java/util/TreeMap", prog_93_method_31_code, 10, (some (.object "java/lang/Object")), "put", [], 6)
def f_J28_put_2_L123 (γ : GP) (x0 : Nat) (x1 : Nat) (x2 : Nat) (x3 : Int32) (x8 : Nat) (K171 : Nat → AH → Option (Nat × AH)) (K201 : Int32 → Nat → AH → Option (Nat × AH)) : Nat → Nat → AH → Option (Nat × AH)
  | 0, _, _ => none
  | n + 1, x4, g => gR g x4 97 fun v6 => bI ((if hK g x8 = 12 then f_J21_compareTo γ x8 v6 g else none)) fun v8 g7 => jn (fun (y9 : Nat) (g10 : AH) => (if y9 = 0 then K201 v8 x4 g10 else f_J28_put_2_L123 γ x0 x1 x2 x3 x8 K171 K201 n y9 g10)) (fun (j11 : Nat → AH → Option (Nat × AH)) => (if 0 ≤ v8 then (if v8 ≤ 0 then K171 x4 g7 else gR g7 x4 100 fun v12 => j11 v12 g7) else gR g7 x4 99 fun v13 => j11 v13 g7))
def f_J28_put_2 (γ : GP) (x0 : Nat) (x1 : Nat) (x2 : Nat) (x3 : Int32) (g : AH) : Option (Nat × AH) := gR g x0 70 fun v1 => (if v1 = 0 then bV ((if hK g x0 = 15 then f_J28_addEntryToEmptyMap γ x0 x1 x2 g else none)) fun g2 => (some (0, g2)) else gR g x0 69 fun v3 => (if v3 = 0 then bR (f_J25_requireNonNull γ x1 g) fun v5 g4 => gC g4 [6, 7, 12, 37, 38, 39, 40, 41] x1 (f_J28_put_2_L123 γ x0 x1 x2 x3 x1 (fun (y14 : Nat) (g15 : AH) => gR g15 y14 98 fun v16 => (if x3 = 0 then (if v16 = 0 then pR γ g15 y14 98 x2 fun g17 => (some (v16, g17)) else (some (v16, g15))) else pR γ g15 y14 98 x2 fun g18 => (some (v16, g18)))) (fun (y19 : Int32) (y20 : Nat) (g21 : AH) => jn (fun (z22 : Int32) (z23 : Nat) (z24 : Nat) (z25 : Nat) (z26 : Nat) (g27 : AH) => bV ((if hK g27 z26 = 15 then f_J28_addEntry γ z26 z25 z24 z23 z22 g27 else none)) fun g29 => (some (0, g29))) (fun (j28 : Int32 → Nat → Nat → Nat → Nat → AH → Option (Nat × AH)) => (if 0 ≤ y19 then j28 (0 : Int32) y20 x2 x1 x0 g21 else j28 (1 : Int32) y20 x2 x1 x0 g21))) FU v1 g4) else gR g v1 97 fun v30 => none))
theorem f_J28_put_2_L123_w (γ : GP) (l : Launch) (hl : l.stackTraces = false) (G0 : AH) (x0 : Nat) (x1 : Nat) (x2 : Nat) (x3 : Int32) (x8 : Nat) (K171 : Nat → AH → Option (Nat × AH)) (K201 : Int32 → Nat → AH → Option (Nat × AH)) (h_K171 : ∀ (y4 : Nat) (g : AH), AW ρR γ l ck_J28_put_2 G0 171 [(2, .ref x2), (3, .int x3), (4, .ref y4)] [] g (K171 y4 g)) (h_K201 : ∀ (y5 : Int32) (y6 : Nat) (g : AH), AW ρR γ l ck_J28_put_2 G0 201 [(0, .ref x0), (1, .ref x1), (2, .ref x2), (5, .int y5), (6, .ref y6)] [] g (K201 y5 y6 g)) : ∀ (n : Nat) (x4 : Nat) (g : AH), AW ρR γ l ck_J28_put_2 G0 123 [(0, .ref x0), (1, .ref x1), (2, .ref x2), (3, .int x3), (4, .ref x4), (8, .ref x8)] [] g (f_J28_put_2_L123 γ x0 x1 x2 x3 x8 K171 K201 n x4 g) := by
  intro n
  induction n with
  | zero => intro x4 g; exact AW_none
  | succ n ih =>
    intro x4 g
    unfold f_J28_put_2_L123
    refine r_aload (pc := 123) dJ28_put_2_123 4 rfl ?_
    refine r_astore (pc := 125) dJ28_put_2_125 (Nat.le_of_ble_eq_true rfl) rfl ?_
    refine r_aload (pc := 127) dJ28_put_2_127 6 rfl ?_
    refine r_aload (pc := 129) dJ28_put_2_129 5 rfl ?_
    refine r_getR (f := 97) (pc := 131) dJ28_put_2_131 q1825 (Or.inl rfl) rfl (fun v6 => ?_)
    refine r_cI (pc := 134) (rest := []) (RunOK_chk (fun h => run_F (n := 1) (c9 := 12) (As := [.ref v6]) (rest := []) (t_J21_compareTo γ l hl x8 v6 g) dJ28_put_2_134 q1543 q1585 q1587 q135 q1589 (by decide +kernel) (by decide +kernel) rfl h ⟨by decide, by decide⟩ (Nat.le_of_ble_eq_true rfl) (Nat.le_of_ble_eq_true rfl) rfl (Nat.le_of_ble_eq_true rfl))) (fun v8 g7 => ?_)
    refine r_istore (pc := 139) dJ28_put_2_139 (Nat.le_of_ble_eq_true rfl) rfl ?_
    refine r_iload (pc := 141) dJ28_put_2_141 0 rfl ?_
    refine AW_jn (P := fun (j : Nat → AH → Option (Nat × AH)) => ∀ (y9 : Nat) (g10 : AH), AW ρR γ l ck_J28_put_2 G0 196 [(0, .ref x0), (1, .ref x1), (2, .ref x2), (3, .int x3), (4, .ref y9), (5, .int v8), (6, .ref x4), (8, .ref x8)] [] g10 (j y9 g10)) (fun y9 g10 => ?_) (fun j11 h_j11 => ?_)
    · skip
      refine r_aload (pc := 196) dJ28_put_2_196 4 rfl ?_
      refine r_ifnonnull (tgt := 123) (pc := 198) dJ28_put_2_198 (by decide) ?_ ?_
      · skip
        refine AW_sub [0, 1, 2, 5, 6] rfl ?_
        exact h_K201 v8 x4 g10
      · skip
        refine AW_sub [0, 1, 2, 3, 4, 7] rfl ?_
        exact ih y9 g10
    · skip
      refine r_if_ge (tgt := 156) (pc := 143) dJ28_put_2_143 (by decide) ?_ ?_
      · skip
        refine r_iload (pc := 156) dJ28_put_2_156 0 rfl ?_
        refine r_if_le (tgt := 171) (pc := 158) dJ28_put_2_158 (by decide) ?_ ?_
        · skip
          refine AW_sub [4, 5, 6] rfl ?_
          exact h_K171 x4 g7
        · skip
          refine r_aload (pc := 161) dJ28_put_2_161 6 rfl ?_
          refine r_getR (f := 100) (pc := 163) dJ28_put_2_163 q1830 (Or.inl rfl) rfl (fun v12 => ?_)
          refine r_astore (pc := 166) dJ28_put_2_166 (Nat.le_of_ble_eq_true rfl) rfl ?_
          refine r_goto (tgt := 196) (pc := 168) dJ28_put_2_168 (by decide) ?_
          refine AW_sub [3, 4, 5, 6, 0, 1, 2, 7] rfl ?_
          exact h_j11 v12 g7
      · skip
        refine r_aload (pc := 146) dJ28_put_2_146 6 rfl ?_
        refine r_getR (f := 99) (pc := 148) dJ28_put_2_148 q1829 (Or.inl rfl) rfl (fun v13 => ?_)
        refine r_astore (pc := 151) dJ28_put_2_151 (Nat.le_of_ble_eq_true rfl) rfl ?_
        refine r_goto (tgt := 196) (pc := 153) dJ28_put_2_153 (by decide) ?_
        refine AW_sub [3, 4, 5, 6, 0, 1, 2, 7] rfl ?_
        exact h_j11 v13 g7
theorem t_J28_put_2 (γ : GP) (l : Launch) (hl : l.stackTraces = false) (x0 : Nat) (x1 : Nat) (x2 : Nat) (x3 : Int32) (g : AH) : TrM ρR γ l ⟨"java/util/TreeMap", "put", "(Ljava/lang/Object;Ljava/lang/Object;Z)Ljava/lang/Object;"⟩ (ws_ ⟨"java/util/TreeMap", "put", "(Ljava/lang/Object;Ljava/lang/Object;Z)Ljava/lang/Object;"⟩ prog_93_method_31_code 10 (some (.object "java/lang/Object"))) 6 [.ref x0, .ref x1, .ref x2, .int x3] g (f_J28_put_2 γ x0 x1 x2 x3 g) := by
  refine TrM_of (plainFor_of_name (by decide)) (Nat.le_of_ble_eq_true rfl) ?_
  unfold f_J28_put_2
  change AW ρR γ l ck_J28_put_2 g 0 [(0, .ref x0), (1, .ref x1), (2, .ref x2), (3, .int x3)] [] g _
  refine r_aload_n (pc := 0) dJ28_put_2_0 rfl 0 rfl ?_
  refine r_getR (f := 70) (pc := 1) dJ28_put_2_1 q1425 (Or.inl rfl) rfl (fun v1 => ?_)
  refine r_astore (pc := 4) dJ28_put_2_4 (Nat.le_of_ble_eq_true rfl) rfl ?_
  refine r_aload (pc := 6) dJ28_put_2_6 0 rfl ?_
  refine r_ifnonnull (tgt := 19) (pc := 8) dJ28_put_2_8 (by decide) ?_ ?_
  · skip
    refine r_aload_n (pc := 11) dJ28_put_2_11 rfl 1 rfl ?_
    refine r_aload_n (pc := 12) dJ28_put_2_12 rfl 2 rfl ?_
    refine r_aload_n (pc := 13) dJ28_put_2_13 rfl 3 rfl ?_
    refine r_cV (pc := 14) (rest := []) (RunOK_chk (fun h => run_V (n := 2) (c9 := 15) (As := [.ref x1, .ref x2]) (rest := []) (t_J28_addEntryToEmptyMap γ l hl x0 x1 x2 g) dJ28_put_2_14 q1809 q1811 qs12 q143 q1812 (by decide +kernel) rfl h ⟨rfl, by decide, by decide⟩ (Nat.le_of_ble_eq_true rfl) (Nat.le_of_ble_eq_true rfl) rfl (Nat.le_of_ble_eq_true rfl))) (fun g2 => ?_)
    refine r_null (pc := 17) dJ28_put_2_17 ?_
    exact r_aret (pc := 18) dJ28_put_2_18 rfl (by first | exact Or.inl ⟨_, rfl⟩ | exact Or.inr ⟨_, rfl⟩)
  · skip
    refine r_aload_n (pc := 19) dJ28_put_2_19 rfl 1 rfl ?_
    refine r_getR (f := 69) (pc := 20) dJ28_put_2_20 q1424 (Or.inl rfl) rfl (fun v3 => ?_)
    refine r_astore (pc := 23) dJ28_put_2_23 (Nat.le_of_ble_eq_true rfl) rfl ?_
    refine r_aload (pc := 25) dJ28_put_2_25 0 rfl ?_
    refine r_ifnull (tgt := 112) (pc := 27) dJ28_put_2_27 (by decide) ?_ ?_
    · skip
      refine r_aload_n (pc := 112) dJ28_put_2_112 rfl 3 rfl ?_
      refine r_cR (pc := 113) (rest := []) (run_S (n := 1) (As := [.ref x1]) (rest := []) (t_J25_requireNonNull γ l hl x1 g) dJ28_put_2_113 q1538 q1539 q140 q1540 (by decide +kernel) rfl (Nat.le_of_ble_eq_true rfl) (Nat.le_of_ble_eq_true rfl) rfl (Nat.le_of_ble_eq_true rfl)) (fun v5 g4 => ?_)
      refine r_pop (pc := 116) dJ28_put_2_116 rfl ?_
      refine r_aload_n (pc := 117) dJ28_put_2_117 rfl 3 rfl ?_
      refine r_cast_ (L := [6, 7, 12, 37, 38, 39, 40, 41]) (pc := 118) dJ28_put_2_118 q1541 (List.forall_mem_cons.mpr ⟨⟨by decide, by decide, Or.inr mv1744⟩, List.forall_mem_cons.mpr ⟨⟨by decide, by decide, Or.inr mv1597⟩, List.forall_mem_cons.mpr ⟨⟨by decide, by decide, Or.inr mv1584⟩, List.forall_mem_cons.mpr ⟨⟨by decide, by decide, Or.inr mv1546⟩, List.forall_mem_cons.mpr ⟨⟨by decide, by decide, Or.inr mv1572⟩, List.forall_mem_cons.mpr ⟨⟨by decide, by decide, Or.inr mv1575⟩, List.forall_mem_cons.mpr ⟨⟨by decide, by decide, Or.inr mv1578⟩, List.forall_mem_cons.mpr ⟨⟨by decide, by decide, Or.inr mv1581⟩, (fun _ h => absurd h List.not_mem_nil)⟩⟩⟩⟩⟩⟩⟩⟩) ?_
      refine r_astore (pc := 121) dJ28_put_2_121 (Nat.le_of_ble_eq_true rfl) rfl ?_
      refine AW_sub [3, 4, 5, 6, 2, 0] rfl ?_
      refine f_J28_put_2_L123_w γ l hl _ x0 x1 x2 x3 x1 _ _ ?_ ?_ FU v1 g4
      · intro y14 g15
        refine r_aload (pc := 171) dJ28_put_2_171 2 rfl ?_
        refine r_getR (f := 98) (pc := 173) dJ28_put_2_173 q1828 (Or.inl rfl) rfl (fun v16 => ?_)
        refine r_astore (pc := 176) dJ28_put_2_176 (Nat.le_of_ble_eq_true rfl) rfl ?_
        refine r_iload_n (pc := 178) dJ28_put_2_178 rfl 2 rfl ?_
        refine r_if_ne (tgt := 187) (pc := 179) dJ28_put_2_179 (by decide) ?_ ?_
        · skip
          refine r_aload (pc := 182) dJ28_put_2_182 0 rfl ?_
          refine r_ifnonnull (tgt := 193) (pc := 184) dJ28_put_2_184 (by decide) ?_ ?_
          · skip
            refine r_aload (pc := 187) dJ28_put_2_187 3 rfl ?_
            refine r_aload_n (pc := 189) dJ28_put_2_189 rfl 1 rfl ?_
            refine r_putR (f := 98) (pc := 190) dJ28_put_2_190 q1828 (Or.inl rfl) (Or.inl rfl) rfl (fun g17 => ?_)
            refine r_aload (pc := 193) dJ28_put_2_193 0 rfl ?_
            exact r_aret (pc := 195) dJ28_put_2_195 rfl (by first | exact Or.inl ⟨_, rfl⟩ | exact Or.inr ⟨_, rfl⟩)
          · skip
            refine r_aload (pc := 193) dJ28_put_2_193 0 rfl ?_
            exact r_aret (pc := 195) dJ28_put_2_195 rfl (by first | exact Or.inl ⟨_, rfl⟩ | exact Or.inr ⟨_, rfl⟩)
        · skip
          refine r_aload (pc := 187) dJ28_put_2_187 3 rfl ?_
          refine r_aload_n (pc := 189) dJ28_put_2_189 rfl 1 rfl ?_
          refine r_putR (f := 98) (pc := 190) dJ28_put_2_190 q1828 (Or.inl rfl) (Or.inl rfl) rfl (fun g18 => ?_)
          refine r_aload (pc := 193) dJ28_put_2_193 0 rfl ?_
          exact r_aret (pc := 195) dJ28_put_2_195 rfl (by first | exact Or.inl ⟨_, rfl⟩ | exact Or.inr ⟨_, rfl⟩)
      · intro y19 y20 g21
        refine r_aload_n (pc := 201) dJ28_put_2_201 rfl 0 rfl ?_
        refine r_aload_n (pc := 202) dJ28_put_2_202 rfl 1 rfl ?_
        refine r_aload_n (pc := 203) dJ28_put_2_203 rfl 2 rfl ?_
        refine r_aload (pc := 204) dJ28_put_2_204 4 rfl ?_
        refine r_iload (pc := 206) dJ28_put_2_206 3 rfl ?_
        refine AW_jn (P := fun (j : Int32 → Nat → Nat → Nat → Nat → AH → Option (Nat × AH)) => ∀ (z22 : Int32) (z23 : Nat) (z24 : Nat) (z25 : Nat) (z26 : Nat) (g27 : AH), AW ρR γ l ck_J28_put_2 g 216 [] [.int z22, .ref z23, .ref z24, .ref z25, .ref z26] g27 (j z22 z23 z24 z25 z26 g27)) (fun z22 z23 z24 z25 z26 g27 => ?_) (fun j28 h_j28 => ?_)
        · skip
          refine r_cV (pc := 216) (rest := []) (RunOK_chk (fun h => run_V (n := 4) (c9 := 15) (As := [.ref z25, .ref z24, .ref z23, .int z22]) (rest := []) (t_J28_addEntry γ l hl z26 z25 z24 z23 z22 g27) dJ28_put_2_216 q1848 q1850 qs13 q143 q1851 (by decide +kernel) rfl h ⟨rfl, by decide, by decide⟩ (Nat.le_of_ble_eq_true rfl) (Nat.le_of_ble_eq_true rfl) rfl (Nat.le_of_ble_eq_true rfl))) (fun g29 => ?_)
          refine r_null (pc := 219) dJ28_put_2_219 ?_
          exact r_aret (pc := 220) dJ28_put_2_220 rfl (by first | exact Or.inl ⟨_, rfl⟩ | exact Or.inr ⟨_, rfl⟩)
        · skip
          refine r_if_ge (tgt := 215) (pc := 208) dJ28_put_2_208 (by decide) ?_ ?_
          · skip
            refine r_iconst (v := (0 : Int32)) (pc := 215) dJ28_put_2_215 (by decide) ?_
            refine AW_sub [] rfl ?_
            exact h_j28 (0 : Int32) y20 x2 x1 x0 g21
          · skip
            refine r_iconst (v := (1 : Int32)) (pc := 211) dJ28_put_2_211 (by decide) ?_
            refine r_goto (tgt := 216) (pc := 212) dJ28_put_2_212 (by decide) ?_
            refine AW_sub [] rfl ?_
            exact h_j28 (1 : Int32) y20 x2 x1 x0 g21
    · skip
      refine r_aload (pc := 30) dJ28_put_2_30 1 rfl ?_
      refine r_astore (pc := 32) dJ28_put_2_32 (Nat.le_of_ble_eq_true rfl) rfl ?_
      refine r_aload (pc := 34) dJ28_put_2_34 1 rfl ?_
      refine r_aload_n (pc := 36) dJ28_put_2_36 rfl 4 rfl ?_
      refine r_aload (pc := 37) dJ28_put_2_37 2 rfl ?_
      refine r_getR (f := 97) (pc := 39) dJ28_put_2_39 q1825 (Or.inl rfl) rfl (fun v30 => ?_)
      exact AW_none
abbrev ck_J28_put : CK := ("java/util/TreeMap", prog_93_method_21_code, 3, (some (.object "java/lang/Object")), "put", [], 7)
def f_J28_put (γ : GP) (x0 : Nat) (x1 : Nat) (x2 : Nat) (g : AH) : Option (Nat × AH) := bR ((if hK g x0 = 15 then f_J28_put_2 γ x0 x1 x2 (1 : Int32) g else none)) fun v2 g1 => (some (v2, g1))
theorem t_J28_put (γ : GP) (l : Launch) (hl : l.stackTraces = false) (x0 : Nat) (x1 : Nat) (x2 : Nat) (g : AH) : TrM ρR γ l ⟨"java/util/TreeMap", "put", "(Ljava/lang/Object;Ljava/lang/Object;)Ljava/lang/Object;"⟩ (ws_ ⟨"java/util/TreeMap", "put", "(Ljava/lang/Object;Ljava/lang/Object;)Ljava/lang/Object;"⟩ prog_93_method_21_code 3 (some (.object "java/lang/Object"))) 7 [.ref x0, .ref x1, .ref x2] g (f_J28_put γ x0 x1 x2 g) := by
  refine TrM_of (plainFor_of_name (by decide)) (Nat.le_of_ble_eq_true rfl) ?_
  unfold f_J28_put
  change AW ρR γ l ck_J28_put g 0 [(0, .ref x0), (1, .ref x1), (2, .ref x2)] [] g _
  refine r_aload_n (pc := 0) dJ28_put_0 rfl 0 rfl ?_
  refine r_aload_n (pc := 1) dJ28_put_1 rfl 1 rfl ?_
  refine r_aload_n (pc := 2) dJ28_put_2 rfl 2 rfl ?_
  refine r_iconst (v := (1 : Int32)) (pc := 3) dJ28_put_3 (by decide) ?_
  refine r_cR (pc := 4) (rest := []) (RunOK_chk (fun h => run_V (n := 3) (c9 := 15) (As := [.ref x1, .ref x2, .int (1 : Int32)]) (rest := []) (t_J28_put_2 γ l hl x0 x1 x2 (1 : Int32) g) dJ28_put_4 q1805 q1807 qs11 q143 q1808 (by decide +kernel) rfl h ⟨rfl, by decide, by decide⟩ (Nat.le_of_ble_eq_true rfl) (Nat.le_of_ble_eq_true rfl) rfl (Nat.le_of_ble_eq_true rfl))) (fun v2 g1 => ?_)
  exact r_aret (pc := 7) dJ28_put_7 rfl (by first | exact Or.inl ⟨_, rfl⟩ | exact Or.inr ⟨_, rfl⟩)
abbrev ck_J4_isPositionIndex : CK := ("java/util/LinkedList", prog_74_method_27_code, 2, (some .boolean), "isPositionIndex", [], 1)
def f_J4_isPositionIndex (γ : GP) (x0 : Nat) (x1 : Int32) (g : AH) : Option (Int32 × AH) := (if x1 < 0 then (rtN .boolean (0 : Int32) g) else gI g x0 19 fun v1 => (if v1 < x1 then (rtN .boolean (0 : Int32) g) else (rtN .boolean (1 : Int32) g)))
theorem t_J4_isPositionIndex (γ : GP) (l : Launch) (hl : l.stackTraces = false) (x0 : Nat) (x1 : Int32) (g : AH) : TrM ρI γ l ⟨"java/util/LinkedList", "isPositionIndex", "(I)Z"⟩ (ws_ ⟨"java/util/LinkedList", "isPositionIndex", "(I)Z"⟩ prog_74_method_27_code 2 (some .boolean)) 1 [.ref x0, .int x1] g (f_J4_isPositionIndex γ x0 x1 g) := by
  refine TrM_of (plainFor_of_name (by decide)) (Nat.le_of_ble_eq_true rfl) ?_
  unfold f_J4_isPositionIndex
  change AW ρI γ l ck_J4_isPositionIndex g 0 [(0, .ref x0), (1, .int x1)] [] g _
  refine r_iload_n (pc := 0) dJ4_isPositionIndex_0 rfl 1 rfl ?_
  refine r_if_lt (tgt := 16) (pc := 1) dJ4_isPositionIndex_1 (by decide) ?_ ?_
  · skip
    refine r_iconst (v := (0 : Int32)) (pc := 16) dJ4_isPositionIndex_16 (by decide) ?_
    exact r_zret (ty := .boolean) (pc := 17) dJ4_isPositionIndex_17 rfl
  · skip
    refine r_iload_n (pc := 4) dJ4_isPositionIndex_4 rfl 1 rfl ?_
    refine r_aload_n (pc := 5) dJ4_isPositionIndex_5 rfl 0 rfl ?_
    refine r_getI (f := 19) (pc := 6) dJ4_isPositionIndex_6 q253 (Or.inl rfl) rfl (fun v1 => ?_)
    refine r_icmp_gt (tgt := 16) (pc := 9) dJ4_isPositionIndex_9 (by decide) ?_ ?_
    · skip
      refine r_iconst (v := (0 : Int32)) (pc := 16) dJ4_isPositionIndex_16 (by decide) ?_
      exact r_zret (ty := .boolean) (pc := 17) dJ4_isPositionIndex_17 rfl
    · skip
      refine r_iconst (v := (1 : Int32)) (pc := 12) dJ4_isPositionIndex_12 (by decide) ?_
      refine r_goto (tgt := 17) (pc := 13) dJ4_isPositionIndex_13 (by decide) ?_
      exact r_zret (ty := .boolean) (pc := 17) dJ4_isPositionIndex_17 rfl
abbrev ck_J4_checkPositionIndex : CK := ("java/util/LinkedList", prog_74_method_30_code, 2, none, "checkPositionIndex", [], 2)
def f_J4_checkPositionIndex (γ : GP) (x0 : Nat) (x1 : Int32) (g : AH) : Option (AH) := bI ((if hK g x0 = 5 then f_J4_isPositionIndex γ x0 x1 g else none)) fun v2 g1 => (if v2 = 0 then none else (some g1))
theorem t_J4_checkPositionIndex (γ : GP) (l : Launch) (hl : l.stackTraces = false) (x0 : Nat) (x1 : Int32) (g : AH) : TrM ρV γ l ⟨"java/util/LinkedList", "checkPositionIndex", "(I)V"⟩ (ws_ ⟨"java/util/LinkedList", "checkPositionIndex", "(I)V"⟩ prog_74_method_30_code 2 none) 2 [.ref x0, .int x1] g (f_J4_checkPositionIndex γ x0 x1 g) := by
  refine TrM_of (plainFor_of_name (by decide)) (Nat.le_of_ble_eq_true rfl) ?_
  unfold f_J4_checkPositionIndex
  change AW ρV γ l ck_J4_checkPositionIndex g 0 [(0, .ref x0), (1, .int x1)] [] g _
  refine r_aload_n (pc := 0) dJ4_checkPositionIndex_0 rfl 0 rfl ?_
  refine r_iload_n (pc := 1) dJ4_checkPositionIndex_1 rfl 1 rfl ?_
  refine r_cI (pc := 2) (rest := []) (RunOK_chk (fun h => run_V (n := 1) (c9 := 5) (As := [.int x1]) (rest := []) (t_J4_isPositionIndex γ l hl x0 x1 g) dJ4_checkPositionIndex_2 q736 q738 qs4 q116 q739 (by decide +kernel) rfl h ⟨rfl, by decide, by decide⟩ (Nat.le_of_ble_eq_true rfl) (Nat.le_of_ble_eq_true rfl) rfl (Nat.le_of_ble_eq_true rfl))) (fun v2 g1 => ?_)
  refine r_if_ne (tgt := 21) (pc := 5) dJ4_checkPositionIndex_5 (by decide) ?_ ?_
  · skip
    exact AW_none
  · skip
    exact r_vret (pc := 21) dJ4_checkPositionIndex_21 rfl
abbrev ck_J4_node : CK := ("java/util/LinkedList", prog_74_method_31_code, 4, (some (.object "java/util/LinkedList$Node")), "node", [], 1)
def f_J4_node_L47 (γ : GP) (x1 : Int32) : Nat → Nat → Int32 → AH → Option (Nat × AH)
  | 0, _, _, _ => none
  | n + 1, x2, x3, g => (if x3 ≤ x1 then (some (x2, g)) else gR g x2 86 fun v4 => f_J4_node_L47 γ x1 n v4 (x3 + (-1 : Int32)) g)
def f_J4_node_L17 (γ : GP) (x1 : Int32) : Nat → Nat → Int32 → AH → Option (Nat × AH)
  | 0, _, _, _ => none
  | n + 1, x2, x3, g => (if x1 ≤ x3 then (some (x2, g)) else gR g x2 85 fun v6 => f_J4_node_L17 γ x1 n v6 (x3 + (1 : Int32)) g)
def f_J4_node (γ : GP) (x0 : Nat) (x1 : Int32) (g : AH) : Option (Nat × AH) := gI g x0 19 fun v1 => (if (v1 >>> ((1 : Int32) &&& 31)) ≤ x1 then gR g x0 21 fun v2 => gI g x0 19 fun v3 => f_J4_node_L47 γ x1 FU v2 (v3 - (1 : Int32)) g else gR g x0 20 fun v5 => f_J4_node_L17 γ x1 FU v5 (0 : Int32) g)
theorem f_J4_node_L47_w (γ : GP) (l : Launch) (hl : l.stackTraces = false) (G0 : AH) (x1 : Int32) : ∀ (n : Nat) (x2 : Nat) (x3 : Int32) (g : AH), AW ρR γ l ck_J4_node G0 47 [(1, .int x1), (2, .ref x2), (3, .int x3)] [] g (f_J4_node_L47 γ x1 n x2 x3 g) := by
  intro n
  induction n with
  | zero => intro x2 x3 g; exact AW_none
  | succ n ih =>
    intro x2 x3 g
    unfold f_J4_node_L47
    refine r_iload_n (pc := 47) dJ4_node_47 rfl 2 rfl ?_
    refine r_iload_n (pc := 48) dJ4_node_48 rfl 0 rfl ?_
    refine r_icmp_le (tgt := 63) (pc := 49) dJ4_node_49 (by decide) ?_ ?_
    · skip
      refine r_aload_n (pc := 63) dJ4_node_63 rfl 1 rfl ?_
      exact r_aret (pc := 64) dJ4_node_64 rfl (by first | exact Or.inl ⟨_, rfl⟩ | exact Or.inr ⟨_, rfl⟩)
    · skip
      refine r_aload_n (pc := 52) dJ4_node_52 rfl 1 rfl ?_
      refine r_getR (f := 86) (pc := 53) dJ4_node_53 q1370 (Or.inl rfl) rfl (fun v4 => ?_)
      refine r_astore_n (pc := 56) dJ4_node_56 rfl (Nat.le_of_ble_eq_true rfl) rfl ?_
      refine r_iinc (j := 2) (v := (x3 + (-1 : Int32))) (pc := 57) dJ4_node_57 rfl rfl (Nat.le_of_ble_eq_true rfl) rfl ?_
      refine r_goto (tgt := 47) (pc := 60) dJ4_node_60 (by decide) ?_
      refine AW_sub [2, 1, 0] rfl ?_
      exact ih v4 (x3 + (-1 : Int32)) g
theorem f_J4_node_L17_w (γ : GP) (l : Launch) (hl : l.stackTraces = false) (G0 : AH) (x1 : Int32) : ∀ (n : Nat) (x2 : Nat) (x3 : Int32) (g : AH), AW ρR γ l ck_J4_node G0 17 [(1, .int x1), (2, .ref x2), (3, .int x3)] [] g (f_J4_node_L17 γ x1 n x2 x3 g) := by
  intro n
  induction n with
  | zero => intro x2 x3 g; exact AW_none
  | succ n ih =>
    intro x2 x3 g
    unfold f_J4_node_L17
    refine r_iload_n (pc := 17) dJ4_node_17 rfl 2 rfl ?_
    refine r_iload_n (pc := 18) dJ4_node_18 rfl 0 rfl ?_
    refine r_icmp_ge (tgt := 33) (pc := 19) dJ4_node_19 (by decide) ?_ ?_
    · skip
      refine r_aload_n (pc := 33) dJ4_node_33 rfl 1 rfl ?_
      exact r_aret (pc := 34) dJ4_node_34 rfl (by first | exact Or.inl ⟨_, rfl⟩ | exact Or.inr ⟨_, rfl⟩)
    · skip
      refine r_aload_n (pc := 22) dJ4_node_22 rfl 1 rfl ?_
      refine r_getR (f := 85) (pc := 23) dJ4_node_23 q1368 (Or.inl rfl) rfl (fun v6 => ?_)
      refine r_astore_n (pc := 26) dJ4_node_26 rfl (Nat.le_of_ble_eq_true rfl) rfl ?_
      refine r_iinc (j := 2) (v := (x3 + (1 : Int32))) (pc := 27) dJ4_node_27 rfl rfl (Nat.le_of_ble_eq_true rfl) rfl ?_
      refine r_goto (tgt := 17) (pc := 30) dJ4_node_30 (by decide) ?_
      refine AW_sub [2, 1, 0] rfl ?_
      exact ih v6 (x3 + (1 : Int32)) g
theorem t_J4_node (γ : GP) (l : Launch) (hl : l.stackTraces = false) (x0 : Nat) (x1 : Int32) (g : AH) : TrM ρR γ l ⟨"java/util/LinkedList", "node", "(I)Ljava/util/LinkedList$Node;"⟩ (ws_ ⟨"java/util/LinkedList", "node", "(I)Ljava/util/LinkedList$Node;"⟩ prog_74_method_31_code 4 (some (.object "java/util/LinkedList$Node"))) 1 [.ref x0, .int x1] g (f_J4_node γ x0 x1 g) := by
  refine TrM_of (plainFor_of_name (by decide)) (Nat.le_of_ble_eq_true rfl) ?_
  unfold f_J4_node
  change AW ρR γ l ck_J4_node g 0 [(0, .ref x0), (1, .int x1)] [] g _
  refine r_iload_n (pc := 0) dJ4_node_0 rfl 1 rfl ?_
  refine r_aload_n (pc := 1) dJ4_node_1 rfl 0 rfl ?_
  refine r_getI (f := 19) (pc := 2) dJ4_node_2 q253 (Or.inl rfl) rfl (fun v1 => ?_)
  refine r_iconst (v := (1 : Int32)) (pc := 5) dJ4_node_5 (by decide) ?_
  refine r_ishr (pc := 6) dJ4_node_6 ?_
  refine r_icmp_ge (tgt := 35) (pc := 7) dJ4_node_7 (by decide) ?_ ?_
  · skip
    refine r_aload_n (pc := 35) dJ4_node_35 rfl 0 rfl ?_
    refine r_getR (f := 21) (pc := 36) dJ4_node_36 q256 (Or.inl rfl) rfl (fun v2 => ?_)
    refine r_astore_n (pc := 39) dJ4_node_39 rfl (Nat.le_of_ble_eq_true rfl) rfl ?_
    refine r_aload_n (pc := 40) dJ4_node_40 rfl 1 rfl ?_
    refine r_getI (f := 19) (pc := 41) dJ4_node_41 q253 (Or.inl rfl) rfl (fun v3 => ?_)
    refine r_iconst (v := (1 : Int32)) (pc := 44) dJ4_node_44 (by decide) ?_
    refine r_isub (pc := 45) dJ4_node_45 ?_
    refine r_istore_n (pc := 46) dJ4_node_46 rfl (Nat.le_of_ble_eq_true rfl) rfl ?_
    refine AW_sub [3, 1, 0] rfl ?_
    refine f_J4_node_L47_w γ l hl _ x1 FU v2 (v3 - (1 : Int32)) g
  · skip
    refine r_aload_n (pc := 10) dJ4_node_10 rfl 0 rfl ?_
    refine r_getR (f := 20) (pc := 11) dJ4_node_11 q255 (Or.inl rfl) rfl (fun v5 => ?_)
    refine r_astore_n (pc := 14) dJ4_node_14 rfl (Nat.le_of_ble_eq_true rfl) rfl ?_
    refine r_iconst (v := (0 : Int32)) (pc := 15) dJ4_node_15 (by decide) ?_
    refine r_istore_n (pc := 16) dJ4_node_16 rfl (Nat.le_of_ble_eq_true rfl) rfl ?_
    refine AW_sub [3, 1, 0] rfl ?_
    refine f_J4_node_L17_w γ l hl _ x1 FU v5 (0 : Int32) g
abbrev ck_J33_init : CK := ("java/util/LinkedList$Node", prog_76_method_1_code, 4, none, "<init>", [], 2)
def f_J33_init (γ : GP) (x0 : Nat) (x1 : Nat) (x2 : Nat) (x3 : Nat) (g : AH) : Option (AH) := (if x0 ≠ 0 then pR γ g x0 84 x2 fun g1 => pR γ g1 x0 85 x3 fun g2 => pR γ g2 x0 86 x1 fun g3 => (some g3) else none)
theorem t_J33_init (γ : GP) (l : Launch) (hl : l.stackTraces = false) (x0 : Nat) (x1 : Nat) (x2 : Nat) (x3 : Nat) (g : AH) : TrM ρV γ l ⟨"java/util/LinkedList$Node", "<init>", "(Ljava/util/LinkedList$Node;Ljava/lang/Object;Ljava/util/LinkedList$Node;)V"⟩ (ws_ ⟨"java/util/LinkedList$Node", "<init>", "(Ljava/util/LinkedList$Node;Ljava/lang/Object;Ljava/util/LinkedList$Node;)V"⟩ prog_76_method_1_code 4 none) 2 [.ref x0, .ref x1, .ref x2, .ref x3] g (f_J33_init γ x0 x1 x2 x3 g) := by
  refine TrM_of (plainFor_of_name (by decide)) (Nat.le_of_ble_eq_true rfl) ?_
  unfold f_J33_init
  change AW ρV γ l ck_J33_init g 0 [(0, .ref x0), (1, .ref x1), (2, .ref x2), (3, .ref x3)] [] g _
  refine r_aload_n (pc := 0) dJ33_init_0 rfl 0 rfl ?_
  refine r_objInit (pc := 1) dJ33_init_1 q1362 q185 q186 (by decide) (Nat.le_of_ble_eq_true rfl) ?_
  refine r_aload_n (pc := 4) dJ33_init_4 rfl 0 rfl ?_
  refine r_aload_n (pc := 5) dJ33_init_5 rfl 2 rfl ?_
  refine r_putR (f := 84) (pc := 6) dJ33_init_6 q1363 (Or.inl rfl) (Or.inl rfl) rfl (fun g1 => ?_)
  refine r_aload_n (pc := 9) dJ33_init_9 rfl 0 rfl ?_
  refine r_aload_n (pc := 10) dJ33_init_10 rfl 3 rfl ?_
  refine r_putR (f := 85) (pc := 11) dJ33_init_11 q1366 (Or.inl rfl) (Or.inl rfl) rfl (fun g2 => ?_)
  refine r_aload_n (pc := 14) dJ33_init_14 rfl 0 rfl ?_
  refine r_aload_n (pc := 15) dJ33_init_15 rfl 1 rfl ?_
  refine r_putR (f := 86) (pc := 16) dJ33_init_16 q1369 (Or.inl rfl) (Or.inl rfl) rfl (fun g3 => ?_)
  exact r_vret (pc := 19) dJ33_init_19 rfl
abbrev ck_J4_addAll_2 : CK := ("java/util/LinkedList", prog_74_method_20_code, 13, (some .boolean), "addAll", [], 5)
def f_J4_addAll_2_L68 (γ : GP) (x0 : Nat) (x4 : Int32) (x6 : Nat) (x7 : Nat) (x8 : Int32) (K131 : Nat → AH → Option (Int32 × AH)) : Nat → Nat → Int32 → AH → Option (Int32 × AH)
  | 0, _, _, _ => none
  | n + 1, x5, x9, g => (if x8 ≤ x9 then K131 x5 g else gQ g 106 x7 x9 fun v14 => mO g 19 fun q15 g16 => bV ((if q15 ≠ 0 then f_J33_init γ q15 x5 v14 0 g16 else none)) fun g17 => (if x5 = 0 then pR γ g17 x0 20 q15 fun g18 => f_J4_addAll_2_L68 γ x0 x4 x6 x7 x8 K131 n q15 (x9 + (1 : Int32)) g18 else pR γ g17 x5 85 q15 fun g19 => f_J4_addAll_2_L68 γ x0 x4 x6 x7 x8 K131 n q15 (x9 + (1 : Int32)) g19))
def f_J4_addAll_2 (γ : GP) (x0 : Nat) (x1 : Int32) (x2 : Nat) (g : AH) : Option (Int32 × AH) := bV ((if hK g x0 = 5 then f_J4_checkPositionIndex γ x0 x1 g else none)) fun g1 => bR ((if hK g1 x2 = 3 then f_J2_toArray γ x2 g1 else if hK g1 x2 = 5 then f_J4_toArray γ x2 g1 else none)) fun v3 g2 => gL g2 v3 fun v4 => (if v4 = 0 then (rtN .boolean (0 : Int32) g2) else gI g2 x0 19 fun v5 => jn (fun (g6 : AH) => gI g6 x0 19 fun v8 => pI γ g6 x0 19 (v8 + v4) fun g9 => gI g9 x0 14 fun v10 => pI γ g9 x0 14 (v10 + (1 : Int32)) fun g11 => (rtN .boolean (1 : Int32) g11)) (fun (j7 : AH → Option (Int32 × AH)) => (if x1 = v5 then gR g2 x0 21 fun v12 => gL g2 v3 fun v13 => f_J4_addAll_2_L68 γ x0 v4 0 v3 v13 (fun (y20 : Nat) (g21 : AH) => (if 0 = 0 then pR γ g21 x0 21 y20 fun g22 => j7 g22 else pR γ g21 y20 85 0 fun g23 => pR γ g23 0 86 y20 fun g24 => j7 g24)) FU v12 (0 : Int32) g2 else bR ((if hK g2 x0 = 5 then f_J4_node γ x0 x1 g2 else none)) fun v26 g25 => gR g25 v26 86 fun v27 => gL g25 v3 fun v28 => f_J4_addAll_2_L68 γ x0 v4 v26 v3 v28 (fun (y29 : Nat) (g30 : AH) => (if v26 = 0 then pR γ g30 x0 21 y29 fun g31 => j7 g31 else pR γ g30 y29 85 v26 fun g32 => pR γ g32 v26 86 y29 fun g33 => j7 g33)) FU v27 (0 : Int32) g25)))
theorem f_J4_addAll_2_L68_w (γ : GP) (l : Launch) (hl : l.stackTraces = false) (G0 : AH) (x0 : Nat) (x4 : Int32) (x6 : Nat) (x7 : Nat) (x8 : Int32) (K131 : Nat → AH → Option (Int32 × AH)) (h_K131 : ∀ (y5 : Nat) (g : AH), AW ρI γ l ck_J4_addAll_2 G0 131 [(0, .ref x0), (4, .int x4), (5, .ref y5), (6, .ref x6)] [] g (K131 y5 g)) : ∀ (n : Nat) (x5 : Nat) (x9 : Int32) (g : AH), AW ρI γ l ck_J4_addAll_2 G0 68 [(0, .ref x0), (4, .int x4), (5, .ref x5), (6, .ref x6), (7, .ref x7), (8, .int x8), (9, .int x9)] [] g (f_J4_addAll_2_L68 γ x0 x4 x6 x7 x8 K131 n x5 x9 g) := by
  intro n
  induction n with
  | zero => intro x5 x9 g; exact AW_none
  | succ n ih =>
    intro x5 x9 g
    unfold f_J4_addAll_2_L68
    refine r_iload (pc := 68) dJ4_addAll_2_68 6 rfl ?_
    refine r_iload (pc := 70) dJ4_addAll_2_70 5 rfl ?_
    refine r_icmp_ge (tgt := 131) (pc := 72) dJ4_addAll_2_72 (by decide) ?_ ?_
    · skip
      refine AW_sub [0, 1, 2, 3] rfl ?_
      exact h_K131 x5 g
    · skip
      refine r_aload (pc := 75) dJ4_addAll_2_75 4 rfl ?_
      refine r_iload (pc := 77) dJ4_addAll_2_77 6 rfl ?_
      refine r_aald (pc := 79) dJ4_addAll_2_79 (fun v14 => ?_)
      refine r_astore (pc := 80) dJ4_addAll_2_80 (Nat.le_of_ble_eq_true rfl) rfl ?_
      refine r_aload (pc := 82) dJ4_addAll_2_82 0 rfl ?_
      refine r_astore (pc := 84) dJ4_addAll_2_84 (Nat.le_of_ble_eq_true rfl) rfl ?_
      refine r_new (c := 19) (pc := 86) dJ4_addAll_2_86 q1357 (by decide) (by decide) (fun q15 g16 => ?_)
      refine r_dup (pc := 89) dJ4_addAll_2_89 rfl ?_
      refine r_aload (pc := 90) dJ4_addAll_2_90 4 rfl ?_
      refine r_aload (pc := 92) dJ4_addAll_2_92 0 rfl ?_
      refine r_null (pc := 94) dJ4_addAll_2_94 ?_
      refine r_cV (pc := 95) (rest := [.ref q15]) (RunOK_chk (fun h => run_I (n := 3) (As := [.ref x5, .ref v14, .ref 0]) (rest := [.ref q15]) (t_J33_init γ l hl q15 x5 v14 0 g16) dJ4_addAll_2_95 q1359 q1360 q149 q1361 rfl (by decide +kernel) rfl h (Nat.le_of_ble_eq_true rfl) (Nat.le_of_ble_eq_true rfl) rfl (Nat.le_of_ble_eq_true rfl))) (fun g17 => ?_)
      refine r_astore (pc := 98) dJ4_addAll_2_98 (Nat.le_of_ble_eq_true rfl) rfl ?_
      refine r_aload (pc := 100) dJ4_addAll_2_100 5 rfl ?_
      refine r_ifnonnull (tgt := 114) (pc := 102) dJ4_addAll_2_102 (by decide) ?_ ?_
      · skip
        refine r_aload_n (pc := 105) dJ4_addAll_2_105 rfl 3 rfl ?_
        refine r_aload (pc := 106) dJ4_addAll_2_106 0 rfl ?_
        refine r_putR (f := 20) (pc := 108) dJ4_addAll_2_108 q255 (Or.inl rfl) (Or.inl rfl) rfl (fun g18 => ?_)
        refine r_goto (tgt := 121) (pc := 111) dJ4_addAll_2_111 (by decide) ?_
        refine r_aload (pc := 121) dJ4_addAll_2_121 0 rfl ?_
        refine r_astore (pc := 123) dJ4_addAll_2_123 (Nat.le_of_ble_eq_true rfl) rfl ?_
        refine r_iinc (j := 9) (v := (x9 + (1 : Int32))) (pc := 125) dJ4_addAll_2_125 rfl rfl (Nat.le_of_ble_eq_true rfl) rfl ?_
        refine r_goto (tgt := 68) (pc := 128) dJ4_addAll_2_128 (by decide) ?_
        refine AW_sub [5, 6, 1, 7, 8, 9, 0] rfl ?_
        exact ih q15 (x9 + (1 : Int32)) g18
      · skip
        refine r_aload (pc := 114) dJ4_addAll_2_114 5 rfl ?_
        refine r_aload (pc := 116) dJ4_addAll_2_116 0 rfl ?_
        refine r_putR (f := 85) (pc := 118) dJ4_addAll_2_118 q1368 (Or.inl rfl) (Or.inl rfl) rfl (fun g19 => ?_)
        refine r_aload (pc := 121) dJ4_addAll_2_121 0 rfl ?_
        refine r_astore (pc := 123) dJ4_addAll_2_123 (Nat.le_of_ble_eq_true rfl) rfl ?_
        refine r_iinc (j := 9) (v := (x9 + (1 : Int32))) (pc := 125) dJ4_addAll_2_125 rfl rfl (Nat.le_of_ble_eq_true rfl) rfl ?_
        refine r_goto (tgt := 68) (pc := 128) dJ4_addAll_2_128 (by decide) ?_
        refine AW_sub [5, 6, 1, 7, 8, 9, 0] rfl ?_
        exact ih q15 (x9 + (1 : Int32)) g19
theorem t_J4_addAll_2 (γ : GP) (l : Launch) (hl : l.stackTraces = false) (x0 : Nat) (x1 : Int32) (x2 : Nat) (g : AH) : TrM ρI γ l ⟨"java/util/LinkedList", "addAll", "(ILjava/util/Collection;)Z"⟩ (ws_ ⟨"java/util/LinkedList", "addAll", "(ILjava/util/Collection;)Z"⟩ prog_74_method_20_code 13 (some .boolean)) 5 [.ref x0, .int x1, .ref x2] g (f_J4_addAll_2 γ x0 x1 x2 g) := by
  refine TrM_of (plainFor_of_name (by decide)) (Nat.le_of_ble_eq_true rfl) ?_
  unfold f_J4_addAll_2
  change AW ρI γ l ck_J4_addAll_2 g 0 [(0, .ref x0), (1, .int x1), (2, .ref x2)] [] g _
  refine r_aload_n (pc := 0) dJ4_addAll_2_0 rfl 0 rfl ?_
  refine r_iload_n (pc := 1) dJ4_addAll_2_1 rfl 1 rfl ?_
  refine r_cV (pc := 2) (rest := []) (RunOK_chk (fun h => run_V (n := 1) (c9 := 5) (As := [.int x1]) (rest := []) (t_J4_checkPositionIndex γ l hl x0 x1 g) dJ4_addAll_2_2 q732 q734 qs3 q116 q735 (by decide +kernel) rfl h ⟨rfl, by decide, by decide⟩ (Nat.le_of_ble_eq_true rfl) (Nat.le_of_ble_eq_true rfl) rfl (Nat.le_of_ble_eq_true rfl))) (fun g1 => ?_)
  refine r_aload_n (pc := 5) dJ4_addAll_2_5 rfl 2 rfl ?_
  refine r_cR (pc := 6) (rest := []) (RunOK_if (fun h => run_F (n := 0) (c9 := 3) (As := []) (rest := []) (t_J2_toArray γ l hl x2 g1) dJ4_addAll_2_6 q1356 q1271 q1273 q112 q1275 (by decide +kernel) (by decide +kernel) rfl h ⟨by decide, by decide⟩ (Nat.le_of_ble_eq_true rfl) (Nat.le_of_ble_eq_true rfl) rfl (Nat.le_of_ble_eq_true rfl)) (RunOK_chk (fun h => run_F (n := 0) (c9 := 5) (As := []) (rest := []) (t_J4_toArray γ l hl x2 g1) dJ4_addAll_2_6 q1356 q1286 q1288 q116 q1290 (by decide +kernel) (by decide +kernel) rfl h ⟨by decide, by decide⟩ (Nat.le_of_ble_eq_true rfl) (Nat.le_of_ble_eq_true rfl) rfl (Nat.le_of_ble_eq_true rfl)))) (fun v3 g2 => ?_)
  refine r_astore_n (pc := 11) dJ4_addAll_2_11 rfl (Nat.le_of_ble_eq_true rfl) rfl ?_
  refine r_aload_n (pc := 12) dJ4_addAll_2_12 rfl 0 rfl ?_
  refine r_alen (pc := 13) dJ4_addAll_2_13 (fun v4 => ?_)
  refine r_istore (pc := 14) dJ4_addAll_2_14 (Nat.le_of_ble_eq_true rfl) rfl ?_
  refine r_iload (pc := 16) dJ4_addAll_2_16 0 rfl ?_
  refine r_if_ne (tgt := 23) (pc := 18) dJ4_addAll_2_18 (by decide) ?_ ?_
  · skip
    refine r_iconst (v := (0 : Int32)) (pc := 21) dJ4_addAll_2_21 (by decide) ?_
    exact r_zret (ty := .boolean) (pc := 22) dJ4_addAll_2_22 rfl
  · skip
    refine r_iload_n (pc := 23) dJ4_addAll_2_23 rfl 3 rfl ?_
    refine r_aload_n (pc := 24) dJ4_addAll_2_24 rfl 2 rfl ?_
    refine r_getI (f := 19) (pc := 25) dJ4_addAll_2_25 q253 (Or.inl rfl) rfl (fun v5 => ?_)
    refine AW_jn (P := fun (j : AH → Option (Int32 × AH)) => ∀ (g6 : AH), AW ρI γ l ck_J4_addAll_2 g 159 [(0, .ref x0), (4, .int v4)] [] g6 (j g6)) (fun g6 => ?_) (fun j7 h_j7 => ?_)
    · skip
      refine r_aload_n (pc := 159) dJ4_addAll_2_159 rfl 0 rfl ?_
      refine r_dup (pc := 160) dJ4_addAll_2_160 rfl ?_
      refine r_getI (f := 19) (pc := 161) dJ4_addAll_2_161 q253 (Or.inl rfl) rfl (fun v8 => ?_)
      refine r_iload (pc := 164) dJ4_addAll_2_164 1 rfl ?_
      refine r_iadd (pc := 166) dJ4_addAll_2_166 ?_
      refine r_putI (f := 19) (pc := 167) dJ4_addAll_2_167 q253 (Or.inl rfl) (Or.inl rfl) rfl (fun g9 => ?_)
      refine r_aload_n (pc := 170) dJ4_addAll_2_170 rfl 0 rfl ?_
      refine r_dup (pc := 171) dJ4_addAll_2_171 rfl ?_
      refine r_getI (f := 14) (pc := 172) dJ4_addAll_2_172 q217 (Or.inr q213) rfl (fun v10 => ?_)
      refine r_iconst (v := (1 : Int32)) (pc := 175) dJ4_addAll_2_175 (by decide) ?_
      refine r_iadd (pc := 176) dJ4_addAll_2_176 ?_
      refine r_putI (f := 14) (pc := 177) dJ4_addAll_2_177 q217 (Or.inr q213) (Or.inl rfl) rfl (fun g11 => ?_)
      refine r_iconst (v := (1 : Int32)) (pc := 180) dJ4_addAll_2_180 (by decide) ?_
      exact r_zret (ty := .boolean) (pc := 181) dJ4_addAll_2_181 rfl
    · skip
      refine r_icmp_ne (tgt := 43) (pc := 28) dJ4_addAll_2_28 (by decide) ?_ ?_
      · skip
        refine r_null (pc := 31) dJ4_addAll_2_31 ?_
        refine r_astore (pc := 32) dJ4_addAll_2_32 (Nat.le_of_ble_eq_true rfl) rfl ?_
        refine r_aload_n (pc := 34) dJ4_addAll_2_34 rfl 3 rfl ?_
        refine r_getR (f := 21) (pc := 35) dJ4_addAll_2_35 q256 (Or.inl rfl) rfl (fun v12 => ?_)
        refine r_astore (pc := 38) dJ4_addAll_2_38 (Nat.le_of_ble_eq_true rfl) rfl ?_
        refine r_goto (tgt := 57) (pc := 40) dJ4_addAll_2_40 (by decide) ?_
        refine r_aload_n (pc := 57) dJ4_addAll_2_57 rfl 3 rfl ?_
        refine r_astore (pc := 58) dJ4_addAll_2_58 (Nat.le_of_ble_eq_true rfl) rfl ?_
        refine r_aload (pc := 60) dJ4_addAll_2_60 0 rfl ?_
        refine r_alen (pc := 62) dJ4_addAll_2_62 (fun v13 => ?_)
        refine r_istore (pc := 63) dJ4_addAll_2_63 (Nat.le_of_ble_eq_true rfl) rfl ?_
        refine r_iconst (v := (0 : Int32)) (pc := 65) dJ4_addAll_2_65 (by decide) ?_
        refine r_istore (pc := 66) dJ4_addAll_2_66 (Nat.le_of_ble_eq_true rfl) rfl ?_
        refine AW_sub [7, 5, 3, 4, 2, 1, 0] rfl ?_
        refine f_J4_addAll_2_L68_w γ l hl _ x0 v4 0 v3 v13 _ ?_ FU v12 (0 : Int32) g2
        · intro y20 g21
          refine r_aload (pc := 131) dJ4_addAll_2_131 3 rfl ?_
          refine r_ifnonnull (tgt := 145) (pc := 133) dJ4_addAll_2_133 (by decide) ?_ ?_
          · skip
            refine r_aload_n (pc := 136) dJ4_addAll_2_136 rfl 0 rfl ?_
            refine r_aload (pc := 137) dJ4_addAll_2_137 2 rfl ?_
            refine r_putR (f := 21) (pc := 139) dJ4_addAll_2_139 q256 (Or.inl rfl) (Or.inl rfl) rfl (fun g22 => ?_)
            refine r_goto (tgt := 159) (pc := 142) dJ4_addAll_2_142 (by decide) ?_
            refine AW_sub [0, 1] rfl ?_
            exact h_j7 g22
          · skip
            refine r_aload (pc := 145) dJ4_addAll_2_145 2 rfl ?_
            refine r_aload (pc := 147) dJ4_addAll_2_147 3 rfl ?_
            refine r_putR (f := 85) (pc := 149) dJ4_addAll_2_149 q1368 (Or.inl rfl) (Or.inl rfl) rfl (fun g23 => ?_)
            refine r_aload (pc := 152) dJ4_addAll_2_152 3 rfl ?_
            refine r_aload (pc := 154) dJ4_addAll_2_154 2 rfl ?_
            refine r_putR (f := 86) (pc := 156) dJ4_addAll_2_156 q1370 (Or.inl rfl) (Or.inl rfl) rfl (fun g24 => ?_)
            refine AW_sub [0, 1] rfl ?_
            exact h_j7 g24
      · skip
        refine r_aload_n (pc := 43) dJ4_addAll_2_43 rfl 2 rfl ?_
        refine r_iload_n (pc := 44) dJ4_addAll_2_44 rfl 3 rfl ?_
        refine r_cR (pc := 45) (rest := []) (RunOK_chk (fun h => run_V (n := 1) (c9 := 5) (As := [.int x1]) (rest := []) (t_J4_node γ l hl x0 x1 g2) dJ4_addAll_2_45 q867 q760 q761 q116 q762 (by decide +kernel) rfl h ⟨rfl, by decide, by decide⟩ (Nat.le_of_ble_eq_true rfl) (Nat.le_of_ble_eq_true rfl) rfl (Nat.le_of_ble_eq_true rfl))) (fun v26 g25 => ?_)
        refine r_astore (pc := 48) dJ4_addAll_2_48 (Nat.le_of_ble_eq_true rfl) rfl ?_
        refine r_aload (pc := 50) dJ4_addAll_2_50 0 rfl ?_
        refine r_getR (f := 86) (pc := 52) dJ4_addAll_2_52 q1370 (Or.inl rfl) rfl (fun v27 => ?_)
        refine r_astore (pc := 55) dJ4_addAll_2_55 (Nat.le_of_ble_eq_true rfl) rfl ?_
        refine r_aload_n (pc := 57) dJ4_addAll_2_57 rfl 3 rfl ?_
        refine r_astore (pc := 58) dJ4_addAll_2_58 (Nat.le_of_ble_eq_true rfl) rfl ?_
        refine r_aload (pc := 60) dJ4_addAll_2_60 0 rfl ?_
        refine r_alen (pc := 62) dJ4_addAll_2_62 (fun v28 => ?_)
        refine r_istore (pc := 63) dJ4_addAll_2_63 (Nat.le_of_ble_eq_true rfl) rfl ?_
        refine r_iconst (v := (0 : Int32)) (pc := 65) dJ4_addAll_2_65 (by decide) ?_
        refine r_istore (pc := 66) dJ4_addAll_2_66 (Nat.le_of_ble_eq_true rfl) rfl ?_
        refine AW_sub [7, 5, 3, 4, 2, 1, 0] rfl ?_
        refine f_J4_addAll_2_L68_w γ l hl _ x0 v4 v26 v3 v28 _ ?_ FU v27 (0 : Int32) g25
        · intro y29 g30
          refine r_aload (pc := 131) dJ4_addAll_2_131 3 rfl ?_
          refine r_ifnonnull (tgt := 145) (pc := 133) dJ4_addAll_2_133 (by decide) ?_ ?_
          · skip
            refine r_aload_n (pc := 136) dJ4_addAll_2_136 rfl 0 rfl ?_
            refine r_aload (pc := 137) dJ4_addAll_2_137 2 rfl ?_
            refine r_putR (f := 21) (pc := 139) dJ4_addAll_2_139 q256 (Or.inl rfl) (Or.inl rfl) rfl (fun g31 => ?_)
            refine r_goto (tgt := 159) (pc := 142) dJ4_addAll_2_142 (by decide) ?_
            refine AW_sub [0, 1] rfl ?_
            exact h_j7 g31
          · skip
            refine r_aload (pc := 145) dJ4_addAll_2_145 2 rfl ?_
            refine r_aload (pc := 147) dJ4_addAll_2_147 3 rfl ?_
            refine r_putR (f := 85) (pc := 149) dJ4_addAll_2_149 q1368 (Or.inl rfl) (Or.inl rfl) rfl (fun g32 => ?_)
            refine r_aload (pc := 152) dJ4_addAll_2_152 3 rfl ?_
            refine r_aload (pc := 154) dJ4_addAll_2_154 2 rfl ?_
            refine r_putR (f := 86) (pc := 156) dJ4_addAll_2_156 q1370 (Or.inl rfl) (Or.inl rfl) rfl (fun g33 => ?_)
            refine AW_sub [0, 1] rfl ?_
            exact h_j7 g33
abbrev ck_J4_addAll : CK := ("java/util/LinkedList", prog_74_method_19_code, 2, (some .boolean), "addAll", [], 6)
def f_J4_addAll (γ : GP) (x0 : Nat) (x1 : Nat) (g : AH) : Option (Int32 × AH) := gI g x0 19 fun v1 => bI ((if hK g x0 = 5 then f_J4_addAll_2 γ x0 v1 x1 g else none)) fun v3 g2 => (rtN .boolean v3 g2)
theorem t_J4_addAll (γ : GP) (l : Launch) (hl : l.stackTraces = false) (x0 : Nat) (x1 : Nat) (g : AH) : TrM ρI γ l ⟨"java/util/LinkedList", "addAll", "(Ljava/util/Collection;)Z"⟩ (ws_ ⟨"java/util/LinkedList", "addAll", "(Ljava/util/Collection;)Z"⟩ prog_74_method_19_code 2 (some .boolean)) 6 [.ref x0, .ref x1] g (f_J4_addAll γ x0 x1 g) := by
  refine TrM_of (plainFor_of_name (by decide)) (Nat.le_of_ble_eq_true rfl) ?_
  unfold f_J4_addAll
  change AW ρI γ l ck_J4_addAll g 0 [(0, .ref x0), (1, .ref x1)] [] g _
  refine r_aload_n (pc := 0) dJ4_addAll_0 rfl 0 rfl ?_
  refine r_aload_n (pc := 1) dJ4_addAll_1 rfl 0 rfl ?_
  refine r_getI (f := 19) (pc := 2) dJ4_addAll_2 q253 (Or.inl rfl) rfl (fun v1 => ?_)
  refine r_aload_n (pc := 5) dJ4_addAll_5 rfl 1 rfl ?_
  refine r_cI (pc := 6) (rest := []) (RunOK_chk (fun h => run_V (n := 2) (c9 := 5) (As := [.int v1, .ref x1]) (rest := []) (t_J4_addAll_2 γ l hl x0 v1 x1 g) dJ4_addAll_6 q1351 q1352 q1353 q116 q1354 (by decide +kernel) rfl h ⟨rfl, by decide, by decide⟩ (Nat.le_of_ble_eq_true rfl) (Nat.le_of_ble_eq_true rfl) rfl (Nat.le_of_ble_eq_true rfl))) (fun v3 g2 => ?_)
  exact r_zret (ty := .boolean) (pc := 9) dJ4_addAll_9 rfl
abbrev ck_J2_size : CK := ("java/util/ArrayList", prog_66_method_8_code, 1, (some .int), "size", [], 1)
def f_J2_size (γ : GP) (x0 : Nat) (g : AH) : Option (Int32 × AH) := gI g x0 16 fun v1 => (some (v1, g))
theorem t_J2_size (γ : GP) (l : Launch) (hl : l.stackTraces = false) (x0 : Nat) (g : AH) : TrM ρI γ l ⟨"java/util/ArrayList", "size", "()I"⟩ (ws_ ⟨"java/util/ArrayList", "size", "()I"⟩ prog_66_method_8_code 1 (some .int)) 1 [.ref x0] g (f_J2_size γ x0 g) := by
  refine TrM_of (plainFor_of_name (by decide)) (Nat.le_of_ble_eq_true rfl) ?_
  unfold f_J2_size
  change AW ρI γ l ck_J2_size g 0 [(0, .ref x0)] [] g _
  refine r_aload_n (pc := 0) dJ2_size_0 rfl 0 rfl ?_
  refine r_getI (f := 16) (pc := 1) dJ2_size_1 q210 (Or.inl rfl) rfl (fun v1 => ?_)
  exact r_iret (pc := 4) dJ2_size_4 rfl
abbrev ck_J4_size : CK := ("java/util/LinkedList", prog_74_method_16_code, 1, (some .int), "size", [], 1)
def f_J4_size (γ : GP) (x0 : Nat) (g : AH) : Option (Int32 × AH) := gI g x0 19 fun v1 => (some (v1, g))
theorem t_J4_size (γ : GP) (l : Launch) (hl : l.stackTraces = false) (x0 : Nat) (g : AH) : TrM ρI γ l ⟨"java/util/LinkedList", "size", "()I"⟩ (ws_ ⟨"java/util/LinkedList", "size", "()I"⟩ prog_74_method_16_code 1 (some .int)) 1 [.ref x0] g (f_J4_size γ x0 g) := by
  refine TrM_of (plainFor_of_name (by decide)) (Nat.le_of_ble_eq_true rfl) ?_
  unfold f_J4_size
  change AW ρI γ l ck_J4_size g 0 [(0, .ref x0)] [] g _
  refine r_aload_n (pc := 0) dJ4_size_0 rfl 0 rfl ?_
  refine r_getI (f := 19) (pc := 1) dJ4_size_1 q253 (Or.inl rfl) rfl (fun v1 => ?_)
  exact r_iret (pc := 4) dJ4_size_4 rfl
abbrev ck_J9_init_4 : CK := ("java/lang/Throwable", prog_55_method_3_code, 3, none, "<init>", [], 4)
def f_J9_init_4 (γ : GP) (x0 : Nat) (x1 : Nat) (x2 : Nat) (g : AH) : Option (AH) := (if x0 ≠ 0 then pR γ g x0 51 x0 fun g1 => pR γ g1 x0 52 (γ.1 1) fun g2 => pR γ g2 x0 53 (γ.1 2) fun g3 => (okFill γ g3 x0 (pR γ g3 x0 54 x1 fun g4 => pR γ g4 x0 51 x2 fun g5 => (some g5))) else none)
theorem t_J9_init_4 (γ : GP) (l : Launch) (hl : l.stackTraces = false) (x0 : Nat) (x1 : Nat) (x2 : Nat) (g : AH) : TrM ρV γ l ⟨"java/lang/Throwable", "<init>", "(Ljava/lang/String;Ljava/lang/Throwable;)V"⟩ (ws_ ⟨"java/lang/Throwable", "<init>", "(Ljava/lang/String;Ljava/lang/Throwable;)V"⟩ prog_55_method_3_code 3 none) 4 [.ref x0, .ref x1, .ref x2] g (f_J9_init_4 γ x0 x1 x2 g) := by
  refine TrM_of (plainFor_of_name (by decide)) (Nat.le_of_ble_eq_true rfl) ?_
  unfold f_J9_init_4
  change AW ρV γ l ck_J9_init_4 g 0 [(0, .ref x0), (1, .ref x1), (2, .ref x2)] [] g _
  refine r_aload_n (pc := 0) dJ9_init_4_0 rfl 0 rfl ?_
  refine r_objInit (pc := 1) dJ9_init_4_1 q431 q185 q186 (by decide) (Nat.le_of_ble_eq_true rfl) ?_
  refine r_aload_n (pc := 4) dJ9_init_4_4 rfl 0 rfl ?_
  refine r_aload_n (pc := 5) dJ9_init_4_5 rfl 0 rfl ?_
  refine r_putR (f := 51) (pc := 6) dJ9_init_4_6 q672 (Or.inl rfl) (Or.inl rfl) rfl (fun g1 => ?_)
  refine r_aload_n (pc := 9) dJ9_init_4_9 rfl 0 rfl ?_
  refine r_gets (i := 1) (pc := 10) dJ9_init_4_10 q432 (List.mem_of_getElem? (i := 1) rfl) rfl ?_
  refine r_putR (f := 52) (pc := 13) dJ9_init_4_13 q673 (Or.inl rfl) (Or.inl rfl) rfl (fun g2 => ?_)
  refine r_aload_n (pc := 16) dJ9_init_4_16 rfl 0 rfl ?_
  refine r_gets (i := 2) (pc := 17) dJ9_init_4_17 q434 (List.mem_of_getElem? (i := 2) rfl) rfl ?_
  refine r_putR (f := 53) (pc := 20) dJ9_init_4_20 q674 (Or.inl rfl) (Or.inl rfl) rfl (fun g3 => ?_)
  refine r_aload_n (pc := 23) dJ9_init_4_23 rfl 0 rfl ?_
  refine r_fill hl (pc := 24) dJ9_init_4_24 rfl (Nat.le_of_ble_eq_true rfl) (Nat.le_of_ble_eq_true rfl) ?_
  refine r_pop (pc := 27) dJ9_init_4_27 rfl ?_
  refine r_aload_n (pc := 28) dJ9_init_4_28 rfl 0 rfl ?_
  refine r_aload_n (pc := 29) dJ9_init_4_29 rfl 1 rfl ?_
  refine r_putR (f := 54) (pc := 30) dJ9_init_4_30 q671 (Or.inl rfl) (Or.inl rfl) rfl (fun g4 => ?_)
  refine r_aload_n (pc := 33) dJ9_init_4_33 rfl 0 rfl ?_
  refine r_aload_n (pc := 34) dJ9_init_4_34 rfl 2 rfl ?_
  refine r_putR (f := 51) (pc := 35) dJ9_init_4_35 q672 (Or.inl rfl) (Or.inl rfl) rfl (fun g5 => ?_)
  exact r_vret (pc := 38) dJ9_init_4_38 rfl
abbrev ck_J10_init_4 : CK := ("java/lang/Exception", prog_36_method_3_code, 3, none, "<init>", [], 5)
def f_J10_init_4 (γ : GP) (x0 : Nat) (x1 : Nat) (x2 : Nat) (g : AH) : Option (AH) := bV ((if x0 ≠ 0 then f_J9_init_4 γ x0 x1 x2 g else none)) fun g1 => (some g1)
theorem t_J10_init_4 (γ : GP) (l : Launch) (hl : l.stackTraces = false) (x0 : Nat) (x1 : Nat) (x2 : Nat) (g : AH) : TrM ρV γ l ⟨"java/lang/Exception", "<init>", "(Ljava/lang/String;Ljava/lang/Throwable;)V"⟩ (ws_ ⟨"java/lang/Exception", "<init>", "(Ljava/lang/String;Ljava/lang/Throwable;)V"⟩ prog_36_method_3_code 3 none) 5 [.ref x0, .ref x1, .ref x2] g (f_J10_init_4 γ x0 x1 x2 g) := by
  refine TrM_of (plainFor_of_name (by decide)) (Nat.le_of_ble_eq_true rfl) ?_
  unfold f_J10_init_4
  change AW ρV γ l ck_J10_init_4 g 0 [(0, .ref x0), (1, .ref x1), (2, .ref x2)] [] g _
  refine r_aload_n (pc := 0) dJ10_init_4_0 rfl 0 rfl ?_
  refine r_aload_n (pc := 1) dJ10_init_4_1 rfl 1 rfl ?_
  refine r_aload_n (pc := 2) dJ10_init_4_2 rfl 2 rfl ?_
  refine r_cV (pc := 3) (rest := []) (RunOK_chk (fun h => run_I (n := 2) (As := [.ref x1, .ref x2]) (rest := []) (t_J9_init_4 γ l hl x0 x1 x2 g) dJ10_init_4_3 q1914 q1915 q122 q1916 rfl (by decide +kernel) rfl h (Nat.le_of_ble_eq_true rfl) (Nat.le_of_ble_eq_true rfl) rfl (Nat.le_of_ble_eq_true rfl))) (fun g1 => ?_)
  exact r_vret (pc := 6) dJ10_init_4_6 rfl
abbrev ck_J4_unlinkFirst : CK := ("java/util/LinkedList", prog_74_method_6_code, 4, (some (.object "java/lang/Object")), "unlinkFirst", [], 1)
def f_J4_unlinkFirst (γ : GP) (x0 : Nat) (x1 : Nat) (g : AH) : Option (Nat × AH) := gR g x1 84 fun v1 => gR g x1 85 fun v2 => pR γ g x1 84 0 fun g3 => pR γ g3 x1 85 0 fun g4 => pR γ g4 x0 20 v2 fun g5 => jn (fun (g6 : AH) => gI g6 x0 19 fun v8 => pI γ g6 x0 19 (v8 - (1 : Int32)) fun g9 => gI g9 x0 14 fun v10 => pI γ g9 x0 14 (v10 + (1 : Int32)) fun g11 => (some (v1, g11))) (fun (j7 : AH → Option (Nat × AH)) => (if v2 = 0 then pR γ g5 x0 21 0 fun g12 => j7 g12 else pR γ g5 v2 86 0 fun g13 => j7 g13))
theorem t_J4_unlinkFirst (γ : GP) (l : Launch) (hl : l.stackTraces = false) (x0 : Nat) (x1 : Nat) (g : AH) : TrM ρR γ l ⟨"java/util/LinkedList", "unlinkFirst", "(Ljava/util/LinkedList$Node;)Ljava/lang/Object;"⟩ (ws_ ⟨"java/util/LinkedList", "unlinkFirst", "(Ljava/util/LinkedList$Node;)Ljava/lang/Object;"⟩ prog_74_method_6_code 4 (some (.object "java/lang/Object"))) 1 [.ref x0, .ref x1] g (f_J4_unlinkFirst γ x0 x1 g) := by
  refine TrM_of (plainFor_of_name (by decide)) (Nat.le_of_ble_eq_true rfl) ?_
  unfold f_J4_unlinkFirst
  change AW ρR γ l ck_J4_unlinkFirst g 0 [(0, .ref x0), (1, .ref x1)] [] g _
  refine r_aload_n (pc := 0) dJ4_unlinkFirst_0 rfl 1 rfl ?_
  refine r_getR (f := 84) (pc := 1) dJ4_unlinkFirst_1 q1365 (Or.inl rfl) rfl (fun v1 => ?_)
  refine r_astore_n (pc := 4) dJ4_unlinkFirst_4 rfl (Nat.le_of_ble_eq_true rfl) rfl ?_
  refine r_aload_n (pc := 5) dJ4_unlinkFirst_5 rfl 2 rfl ?_
  refine r_getR (f := 85) (pc := 6) dJ4_unlinkFirst_6 q1368 (Or.inl rfl) rfl (fun v2 => ?_)
  refine r_astore_n (pc := 9) dJ4_unlinkFirst_9 rfl (Nat.le_of_ble_eq_true rfl) rfl ?_
  refine r_aload_n (pc := 10) dJ4_unlinkFirst_10 rfl 3 rfl ?_
  refine r_null (pc := 11) dJ4_unlinkFirst_11 ?_
  refine r_putR (f := 84) (pc := 12) dJ4_unlinkFirst_12 q1365 (Or.inl rfl) (Or.inl rfl) rfl (fun g3 => ?_)
  refine r_aload_n (pc := 15) dJ4_unlinkFirst_15 rfl 3 rfl ?_
  refine r_null (pc := 16) dJ4_unlinkFirst_16 ?_
  refine r_putR (f := 85) (pc := 17) dJ4_unlinkFirst_17 q1368 (Or.inl rfl) (Or.inl rfl) rfl (fun g4 => ?_)
  refine r_aload_n (pc := 20) dJ4_unlinkFirst_20 rfl 2 rfl ?_
  refine r_aload_n (pc := 21) dJ4_unlinkFirst_21 rfl 0 rfl ?_
  refine r_putR (f := 20) (pc := 22) dJ4_unlinkFirst_22 q255 (Or.inl rfl) (Or.inl rfl) rfl (fun g5 => ?_)
  refine r_aload_n (pc := 25) dJ4_unlinkFirst_25 rfl 0 rfl ?_
  refine AW_jn (P := fun (j : AH → Option (Nat × AH)) => ∀ (g6 : AH), AW ρR γ l ck_J4_unlinkFirst g 42 [(0, .ref x0), (2, .ref v1)] [] g6 (j g6)) (fun g6 => ?_) (fun j7 h_j7 => ?_)
  · skip
    refine r_aload_n (pc := 42) dJ4_unlinkFirst_42 rfl 0 rfl ?_
    refine r_dup (pc := 43) dJ4_unlinkFirst_43 rfl ?_
    refine r_getI (f := 19) (pc := 44) dJ4_unlinkFirst_44 q253 (Or.inl rfl) rfl (fun v8 => ?_)
    refine r_iconst (v := (1 : Int32)) (pc := 47) dJ4_unlinkFirst_47 (by decide) ?_
    refine r_isub (pc := 48) dJ4_unlinkFirst_48 ?_
    refine r_putI (f := 19) (pc := 49) dJ4_unlinkFirst_49 q253 (Or.inl rfl) (Or.inl rfl) rfl (fun g9 => ?_)
    refine r_aload_n (pc := 52) dJ4_unlinkFirst_52 rfl 0 rfl ?_
    refine r_dup (pc := 53) dJ4_unlinkFirst_53 rfl ?_
    refine r_getI (f := 14) (pc := 54) dJ4_unlinkFirst_54 q217 (Or.inr q213) rfl (fun v10 => ?_)
    refine r_iconst (v := (1 : Int32)) (pc := 57) dJ4_unlinkFirst_57 (by decide) ?_
    refine r_iadd (pc := 58) dJ4_unlinkFirst_58 ?_
    refine r_putI (f := 14) (pc := 59) dJ4_unlinkFirst_59 q217 (Or.inr q213) (Or.inl rfl) rfl (fun g11 => ?_)
    refine r_aload_n (pc := 62) dJ4_unlinkFirst_62 rfl 1 rfl ?_
    exact r_aret (pc := 63) dJ4_unlinkFirst_63 rfl (by first | exact Or.inl ⟨_, rfl⟩ | exact Or.inr ⟨_, rfl⟩)
  · skip
    refine r_ifnonnull (tgt := 37) (pc := 26) dJ4_unlinkFirst_26 (by decide) ?_ ?_
    · skip
      refine r_aload_n (pc := 29) dJ4_unlinkFirst_29 rfl 2 rfl ?_
      refine r_null (pc := 30) dJ4_unlinkFirst_30 ?_
      refine r_putR (f := 21) (pc := 31) dJ4_unlinkFirst_31 q256 (Or.inl rfl) (Or.inl rfl) rfl (fun g12 => ?_)
      refine r_goto (tgt := 42) (pc := 34) dJ4_unlinkFirst_34 (by decide) ?_
      refine AW_sub [2, 1] rfl ?_
      exact h_j7 g12
    · skip
      refine r_aload_n (pc := 37) dJ4_unlinkFirst_37 rfl 0 rfl ?_
      refine r_null (pc := 38) dJ4_unlinkFirst_38 ?_
      refine r_putR (f := 86) (pc := 39) dJ4_unlinkFirst_39 q1370 (Or.inl rfl) (Or.inl rfl) rfl (fun g13 => ?_)
      refine AW_sub [2, 1] rfl ?_
      exact h_j7 g13
abbrev ck_J4_removeFirst : CK := ("java/util/LinkedList", prog_74_method_11_code, 2, (some (.object "java/lang/Object")), "removeFirst", [], 2)
def f_J4_removeFirst (γ : GP) (x0 : Nat) (g : AH) : Option (Nat × AH) := gR g x0 20 fun v1 => (if v1 = 0 then none else bR ((if hK g x0 = 5 then f_J4_unlinkFirst γ x0 v1 g else none)) fun v3 g2 => (some (v3, g2)))
theorem t_J4_removeFirst (γ : GP) (l : Launch) (hl : l.stackTraces = false) (x0 : Nat) (g : AH) : TrM ρR γ l ⟨"java/util/LinkedList", "removeFirst", "()Ljava/lang/Object;"⟩ (ws_ ⟨"java/util/LinkedList", "removeFirst", "()Ljava/lang/Object;"⟩ prog_74_method_11_code 2 (some (.object "java/lang/Object"))) 2 [.ref x0] g (f_J4_removeFirst γ x0 g) := by
  refine TrM_of (plainFor_of_name (by decide)) (Nat.le_of_ble_eq_true rfl) ?_
  unfold f_J4_removeFirst
  change AW ρR γ l ck_J4_removeFirst g 0 [(0, .ref x0)] [] g _
  refine r_aload_n (pc := 0) dJ4_removeFirst_0 rfl 0 rfl ?_
  refine r_getR (f := 20) (pc := 1) dJ4_removeFirst_1 q255 (Or.inl rfl) rfl (fun v1 => ?_)
  refine r_astore_n (pc := 4) dJ4_removeFirst_4 rfl (Nat.le_of_ble_eq_true rfl) rfl ?_
  refine r_aload_n (pc := 5) dJ4_removeFirst_5 rfl 0 rfl ?_
  refine r_ifnonnull (tgt := 17) (pc := 6) dJ4_removeFirst_6 (by decide) ?_ ?_
  · skip
    exact AW_none
  · skip
    refine r_aload_n (pc := 17) dJ4_removeFirst_17 rfl 1 rfl ?_
    refine r_aload_n (pc := 18) dJ4_removeFirst_18 rfl 0 rfl ?_
    refine r_cR (pc := 19) (rest := []) (RunOK_chk (fun h => run_V (n := 1) (c9 := 5) (As := [.ref v1]) (rest := []) (t_J4_unlinkFirst γ l hl x0 v1 g) dJ4_removeFirst_19 q1937 q1939 qs18 q116 q1940 (by decide +kernel) rfl h ⟨rfl, by decide, by decide⟩ (Nat.le_of_ble_eq_true rfl) (Nat.le_of_ble_eq_true rfl) rfl (Nat.le_of_ble_eq_true rfl))) (fun v3 g2 => ?_)
    exact r_aret (pc := 22) dJ4_removeFirst_22 rfl (by first | exact Or.inl ⟨_, rfl⟩ | exact Or.inr ⟨_, rfl⟩)
abbrev ck_J4_linkLast : CK := ("java/util/LinkedList", prog_74_method_4_code, 4, none, "linkLast", [], 3)
def f_J4_linkLast (γ : GP) (x0 : Nat) (x1 : Nat) (g : AH) : Option (AH) := gR g x0 21 fun v1 => mO g 19 fun q2 g3 => bV ((if q2 ≠ 0 then f_J33_init γ q2 v1 x1 0 g3 else none)) fun g4 => pR γ g4 x0 21 q2 fun g5 => jn (fun (g6 : AH) => gI g6 x0 19 fun v8 => pI γ g6 x0 19 (v8 + (1 : Int32)) fun g9 => gI g9 x0 14 fun v10 => pI γ g9 x0 14 (v10 + (1 : Int32)) fun g11 => (some g11)) (fun (j7 : AH → Option (AH)) => (if v1 = 0 then pR γ g5 x0 20 q2 fun g12 => j7 g12 else pR γ g5 v1 85 q2 fun g13 => j7 g13))
theorem t_J4_linkLast (γ : GP) (l : Launch) (hl : l.stackTraces = false) (x0 : Nat) (x1 : Nat) (g : AH) : TrM ρV γ l ⟨"java/util/LinkedList", "linkLast", "(Ljava/lang/Object;)V"⟩ (ws_ ⟨"java/util/LinkedList", "linkLast", "(Ljava/lang/Object;)V"⟩ prog_74_method_4_code 4 none) 3 [.ref x0, .ref x1] g (f_J4_linkLast γ x0 x1 g) := by
  refine TrM_of (plainFor_of_name (by decide)) (Nat.le_of_ble_eq_true rfl) ?_
  unfold f_J4_linkLast
  change AW ρV γ l ck_J4_linkLast g 0 [(0, .ref x0), (1, .ref x1)] [] g _
  refine r_aload_n (pc := 0) dJ4_linkLast_0 rfl 0 rfl ?_
  refine r_getR (f := 21) (pc := 1) dJ4_linkLast_1 q256 (Or.inl rfl) rfl (fun v1 => ?_)
  refine r_astore_n (pc := 4) dJ4_linkLast_4 rfl (Nat.le_of_ble_eq_true rfl) rfl ?_
  refine r_new (c := 19) (pc := 5) dJ4_linkLast_5 q1357 (by decide) (by decide) (fun q2 g3 => ?_)
  refine r_dup (pc := 8) dJ4_linkLast_8 rfl ?_
  refine r_aload_n (pc := 9) dJ4_linkLast_9 rfl 0 rfl ?_
  refine r_aload_n (pc := 10) dJ4_linkLast_10 rfl 2 rfl ?_
  refine r_null (pc := 11) dJ4_linkLast_11 ?_
  refine r_cV (pc := 12) (rest := [.ref q2]) (RunOK_chk (fun h => run_I (n := 3) (As := [.ref v1, .ref x1, .ref 0]) (rest := [.ref q2]) (t_J33_init γ l hl q2 v1 x1 0 g3) dJ4_linkLast_12 q1359 q1360 q149 q1361 rfl (by decide +kernel) rfl h (Nat.le_of_ble_eq_true rfl) (Nat.le_of_ble_eq_true rfl) rfl (Nat.le_of_ble_eq_true rfl))) (fun g4 => ?_)
  refine r_astore_n (pc := 15) dJ4_linkLast_15 rfl (Nat.le_of_ble_eq_true rfl) rfl ?_
  refine r_aload_n (pc := 16) dJ4_linkLast_16 rfl 2 rfl ?_
  refine r_aload_n (pc := 17) dJ4_linkLast_17 rfl 0 rfl ?_
  refine r_putR (f := 21) (pc := 18) dJ4_linkLast_18 q256 (Or.inl rfl) (Or.inl rfl) rfl (fun g5 => ?_)
  refine r_aload_n (pc := 21) dJ4_linkLast_21 rfl 1 rfl ?_
  refine AW_jn (P := fun (j : AH → Option (AH)) => ∀ (g6 : AH), AW ρV γ l ck_J4_linkLast g 38 [(0, .ref x0)] [] g6 (j g6)) (fun g6 => ?_) (fun j7 h_j7 => ?_)
  · skip
    refine r_aload_n (pc := 38) dJ4_linkLast_38 rfl 0 rfl ?_
    refine r_dup (pc := 39) dJ4_linkLast_39 rfl ?_
    refine r_getI (f := 19) (pc := 40) dJ4_linkLast_40 q253 (Or.inl rfl) rfl (fun v8 => ?_)
    refine r_iconst (v := (1 : Int32)) (pc := 43) dJ4_linkLast_43 (by decide) ?_
    refine r_iadd (pc := 44) dJ4_linkLast_44 ?_
    refine r_putI (f := 19) (pc := 45) dJ4_linkLast_45 q253 (Or.inl rfl) (Or.inl rfl) rfl (fun g9 => ?_)
    refine r_aload_n (pc := 48) dJ4_linkLast_48 rfl 0 rfl ?_
    refine r_dup (pc := 49) dJ4_linkLast_49 rfl ?_
    refine r_getI (f := 14) (pc := 50) dJ4_linkLast_50 q217 (Or.inr q213) rfl (fun v10 => ?_)
    refine r_iconst (v := (1 : Int32)) (pc := 53) dJ4_linkLast_53 (by decide) ?_
    refine r_iadd (pc := 54) dJ4_linkLast_54 ?_
    refine r_putI (f := 14) (pc := 55) dJ4_linkLast_55 q217 (Or.inr q213) (Or.inl rfl) rfl (fun g11 => ?_)
    exact r_vret (pc := 58) dJ4_linkLast_58 rfl
  · skip
    refine r_ifnonnull (tgt := 33) (pc := 22) dJ4_linkLast_22 (by decide) ?_ ?_
    · skip
      refine r_aload_n (pc := 25) dJ4_linkLast_25 rfl 2 rfl ?_
      refine r_aload_n (pc := 26) dJ4_linkLast_26 rfl 0 rfl ?_
      refine r_putR (f := 20) (pc := 27) dJ4_linkLast_27 q255 (Or.inl rfl) (Or.inl rfl) rfl (fun g12 => ?_)
      refine r_goto (tgt := 38) (pc := 30) dJ4_linkLast_30 (by decide) ?_
      refine AW_sub [2] rfl ?_
      exact h_j7 g12
    · skip
      refine r_aload_n (pc := 33) dJ4_linkLast_33 rfl 1 rfl ?_
      refine r_aload_n (pc := 34) dJ4_linkLast_34 rfl 0 rfl ?_
      refine r_putR (f := 85) (pc := 35) dJ4_linkLast_35 q1368 (Or.inl rfl) (Or.inl rfl) rfl (fun g13 => ?_)
      refine AW_sub [2] rfl ?_
      exact h_j7 g13
abbrev ck_J4_addLast : CK := ("java/util/LinkedList", prog_74_method_14_code, 2, none, "addLast", [], 4)
def f_J4_addLast (γ : GP) (x0 : Nat) (x1 : Nat) (g : AH) : Option (AH) := bV ((if hK g x0 = 5 then f_J4_linkLast γ x0 x1 g else none)) fun g1 => (some g1)
theorem t_J4_addLast (γ : GP) (l : Launch) (hl : l.stackTraces = false) (x0 : Nat) (x1 : Nat) (g : AH) : TrM ρV γ l ⟨"java/util/LinkedList", "addLast", "(Ljava/lang/Object;)V"⟩ (ws_ ⟨"java/util/LinkedList", "addLast", "(Ljava/lang/Object;)V"⟩ prog_74_method_14_code 2 none) 4 [.ref x0, .ref x1] g (f_J4_addLast γ x0 x1 g) := by
  refine TrM_of (plainFor_of_name (by decide)) (Nat.le_of_ble_eq_true rfl) ?_
  unfold f_J4_addLast
  change AW ρV γ l ck_J4_addLast g 0 [(0, .ref x0), (1, .ref x1)] [] g _
  refine r_aload_n (pc := 0) dJ4_addLast_0 rfl 0 rfl ?_
  refine r_aload_n (pc := 1) dJ4_addLast_1 rfl 1 rfl ?_
  refine r_cV (pc := 2) (rest := []) (RunOK_chk (fun h => run_V (n := 1) (c9 := 5) (As := [.ref x1]) (rest := []) (t_J4_linkLast γ l hl x0 x1 g) dJ4_addLast_2 q1401 q1402 q1403 q116 q1404 (by decide +kernel) rfl h ⟨rfl, by decide, by decide⟩ (Nat.le_of_ble_eq_true rfl) (Nat.le_of_ble_eq_true rfl) rfl (Nat.le_of_ble_eq_true rfl))) (fun g1 => ?_)
  exact r_vret (pc := 5) dJ4_addLast_5 rfl
abbrev ck_J40_init : CK := ("java/lang/UnsupportedOperationException", prog_56_method_1_code, 1, none, "<init>", [], 7)
def f_J40_init (γ : GP) (x0 : Nat) (g : AH) : Option (AH) := bV ((if x0 ≠ 0 then f_J11_init_3 γ x0 g else none)) fun g1 => (some g1)
theorem t_J40_init (γ : GP) (l : Launch) (hl : l.stackTraces = false) (x0 : Nat) (g : AH) : TrM ρV γ l ⟨"java/lang/UnsupportedOperationException", "<init>", "()V"⟩ (ws_ ⟨"java/lang/UnsupportedOperationException", "<init>", "()V"⟩ prog_56_method_1_code 1 none) 7 [.ref x0] g (f_J40_init γ x0 g) := by
  refine TrM_of (plainFor_of_name (by decide)) (Nat.le_of_ble_eq_true rfl) ?_
  unfold f_J40_init
  change AW ρV γ l ck_J40_init g 0 [(0, .ref x0)] [] g _
  refine r_aload_n (pc := 0) dJ40_init_0 rfl 0 rfl ?_
  refine r_cV (pc := 1) (rest := []) (RunOK_chk (fun h => run_I (n := 0) (As := []) (rest := []) (t_J11_init_3 γ l hl x0 g) dJ40_init_1 q1969 q1007 q124 q1008 rfl (by decide +kernel) rfl h (Nat.le_of_ble_eq_true rfl) (Nat.le_of_ble_eq_true rfl) rfl (Nat.le_of_ble_eq_true rfl))) (fun g1 => ?_)
  exact r_vret (pc := 4) dJ40_init_4 rfl
abbrev ck_J14_init_2 : CK := ("java/lang/IndexOutOfBoundsException", prog_39_method_1_code, 1, none, "<init>", [], 7)
def f_J14_init_2 (γ : GP) (x0 : Nat) (g : AH) : Option (AH) := bV ((if x0 ≠ 0 then f_J11_init_3 γ x0 g else none)) fun g1 => (some g1)
theorem t_J14_init_2 (γ : GP) (l : Launch) (hl : l.stackTraces = false) (x0 : Nat) (g : AH) : TrM ρV γ l ⟨"java/lang/IndexOutOfBoundsException", "<init>", "()V"⟩ (ws_ ⟨"java/lang/IndexOutOfBoundsException", "<init>", "()V"⟩ prog_39_method_1_code 1 none) 7 [.ref x0] g (f_J14_init_2 γ x0 g) := by
  refine TrM_of (plainFor_of_name (by decide)) (Nat.le_of_ble_eq_true rfl) ?_
  unfold f_J14_init_2
  change AW ρV γ l ck_J14_init_2 g 0 [(0, .ref x0)] [] g _
  refine r_aload_n (pc := 0) dJ14_init_2_0 rfl 0 rfl ?_
  refine r_cV (pc := 1) (rest := []) (RunOK_chk (fun h => run_I (n := 0) (As := []) (rest := []) (t_J11_init_3 γ l hl x0 g) dJ14_init_2_1 q2012 q1007 q124 q1008 rfl (by decide +kernel) rfl h (Nat.le_of_ble_eq_true rfl) (Nat.le_of_ble_eq_true rfl) rfl (Nat.le_of_ble_eq_true rfl))) (fun g1 => ?_)
  exact r_vret (pc := 4) dJ14_init_2_4 rfl
abbrev ck_J18_checkIndex : CK := ("jdk/internal/util/Preconditions", prog_107_method_11_code, 3, (some .int), "checkIndex", [], 1)
def f_J18_checkIndex (γ : GP) (x0 : Int32) (x1 : Int32) (x2 : Nat) (g : AH) : Option (Int32 × AH) := (if x0 < 0 then none else (if x0 < x1 then (some (x0, g)) else none))
theorem t_J18_checkIndex (γ : GP) (l : Launch) (hl : l.stackTraces = false) (x0 : Int32) (x1 : Int32) (x2 : Nat) (g : AH) : TrM ρI γ l ⟨"jdk/internal/util/Preconditions", "checkIndex", "(IILjava/util/function/BiFunction;)I"⟩ (ws_ ⟨"jdk/internal/util/Preconditions", "checkIndex", "(IILjava/util/function/BiFunction;)I"⟩ prog_107_method_11_code 3 (some .int)) 1 [.int x0, .int x1, .ref x2] g (f_J18_checkIndex γ x0 x1 x2 g) := by
  refine TrM_of (plainFor_of_name (by decide)) (Nat.le_of_ble_eq_true rfl) ?_
  unfold f_J18_checkIndex
  change AW ρI γ l ck_J18_checkIndex g 0 [(0, .int x0), (1, .int x1), (2, .ref x2)] [] g _
  refine r_iload_n (pc := 0) dJ18_checkIndex_0 rfl 0 rfl ?_
  refine r_if_lt (tgt := 9) (pc := 1) dJ18_checkIndex_1 (by decide) ?_ ?_
  · skip
    refine r_aload_n (pc := 9) dJ18_checkIndex_9 rfl 2 rfl ?_
    refine r_iload_n (pc := 10) dJ18_checkIndex_10 rfl 0 rfl ?_
    refine r_iload_n (pc := 11) dJ18_checkIndex_11 rfl 1 rfl ?_
    exact AW_none
  · skip
    refine r_iload_n (pc := 4) dJ18_checkIndex_4 rfl 0 rfl ?_
    refine r_iload_n (pc := 5) dJ18_checkIndex_5 rfl 1 rfl ?_
    refine r_icmp_lt (tgt := 16) (pc := 6) dJ18_checkIndex_6 (by decide) ?_ ?_
    · skip
      refine r_iload_n (pc := 16) dJ18_checkIndex_16 rfl 0 rfl ?_
      exact r_iret (pc := 17) dJ18_checkIndex_17 rfl
    · skip
      refine r_aload_n (pc := 9) dJ18_checkIndex_9 rfl 2 rfl ?_
      refine r_iload_n (pc := 10) dJ18_checkIndex_10 rfl 0 rfl ?_
      refine r_iload_n (pc := 11) dJ18_checkIndex_11 rfl 1 rfl ?_
      exact AW_none
abbrev ck_J25_checkIndex : CK := ("java/util/Objects", prog_84_method_17_code, 2, (some .int), "checkIndex", [], 2)
def f_J25_checkIndex (γ : GP) (x0 : Int32) (x1 : Int32) (g : AH) : Option (Int32 × AH) := bI (f_J18_checkIndex γ x0 x1 0 g) fun v2 g1 => (some (v2, g1))
theorem t_J25_checkIndex (γ : GP) (l : Launch) (hl : l.stackTraces = false) (x0 : Int32) (x1 : Int32) (g : AH) : TrM ρI γ l ⟨"java/util/Objects", "checkIndex", "(II)I"⟩ (ws_ ⟨"java/util/Objects", "checkIndex", "(II)I"⟩ prog_84_method_17_code 2 (some .int)) 2 [.int x0, .int x1] g (f_J25_checkIndex γ x0 x1 g) := by
  refine TrM_of (plainFor_of_name (by decide)) (Nat.le_of_ble_eq_true rfl) ?_
  unfold f_J25_checkIndex
  change AW ρI γ l ck_J25_checkIndex g 0 [(0, .int x0), (1, .int x1)] [] g _
  refine r_iload_n (pc := 0) dJ25_checkIndex_0 rfl 0 rfl ?_
  refine r_iload_n (pc := 1) dJ25_checkIndex_1 rfl 1 rfl ?_
  refine r_null (pc := 2) dJ25_checkIndex_2 ?_
  refine r_cI (pc := 3) (rest := []) (run_S (n := 3) (As := [.int x0, .int x1, .ref 0]) (rest := []) (t_J18_checkIndex γ l hl x0 x1 0 g) dJ25_checkIndex_3 q849 q850 q132 q851 (by decide +kernel) rfl (Nat.le_of_ble_eq_true rfl) (Nat.le_of_ble_eq_true rfl) rfl (Nat.le_of_ble_eq_true rfl)) (fun v2 g1 => ?_)
  exact r_iret (pc := 6) dJ25_checkIndex_6 rfl
abbrev ck_J2_elementData : CK := ("java/util/ArrayList", prog_66_method_18_code, 2, (some (.object "java/lang/Object")), "elementData", [], 1)
def f_J2_elementData (γ : GP) (x0 : Nat) (x1 : Int32) (g : AH) : Option (Nat × AH) := gR g x0 15 fun v1 => gQ g 106 v1 x1 fun v2 => (some (v2, g))
theorem t_J2_elementData (γ : GP) (l : Launch) (hl : l.stackTraces = false) (x0 : Nat) (x1 : Int32) (g : AH) : TrM ρR γ l ⟨"java/util/ArrayList", "elementData", "(I)Ljava/lang/Object;"⟩ (ws_ ⟨"java/util/ArrayList", "elementData", "(I)Ljava/lang/Object;"⟩ prog_66_method_18_code 2 (some (.object "java/lang/Object"))) 1 [.ref x0, .int x1] g (f_J2_elementData γ x0 x1 g) := by
  refine TrM_of (plainFor_of_name (by decide)) (Nat.le_of_ble_eq_true rfl) ?_
  unfold f_J2_elementData
  change AW ρR γ l ck_J2_elementData g 0 [(0, .ref x0), (1, .int x1)] [] g _
  refine r_aload_n (pc := 0) dJ2_elementData_0 rfl 0 rfl ?_
  refine r_getR (f := 15) (pc := 1) dJ2_elementData_1 q207 (Or.inl rfl) rfl (fun v1 => ?_)
  refine r_iload_n (pc := 4) dJ2_elementData_4 rfl 1 rfl ?_
  refine r_aald (pc := 5) dJ2_elementData_5 (fun v2 => ?_)
  exact r_aret (pc := 6) dJ2_elementData_6 rfl (by first | exact Or.inl ⟨_, rfl⟩ | exact Or.inr ⟨_, rfl⟩)
abbrev ck_J2_get : CK := ("java/util/ArrayList", prog_66_method_20_code, 2, (some (.object "java/lang/Object")), "get", [], 3)
def f_J2_get (γ : GP) (x0 : Nat) (x1 : Int32) (g : AH) : Option (Nat × AH) := gI g x0 16 fun v1 => bI (f_J25_checkIndex γ x1 v1 g) fun v3 g2 => bR ((if hK g2 x0 = 3 then f_J2_elementData γ x0 x1 g2 else none)) fun v5 g4 => (some (v5, g4))
theorem t_J2_get (γ : GP) (l : Launch) (hl : l.stackTraces = false) (x0 : Nat) (x1 : Int32) (g : AH) : TrM ρR γ l ⟨"java/util/ArrayList", "get", "(I)Ljava/lang/Object;"⟩ (ws_ ⟨"java/util/ArrayList", "get", "(I)Ljava/lang/Object;"⟩ prog_66_method_20_code 2 (some (.object "java/lang/Object"))) 3 [.ref x0, .int x1] g (f_J2_get γ x0 x1 g) := by
  refine TrM_of (plainFor_of_name (by decide)) (Nat.le_of_ble_eq_true rfl) ?_
  unfold f_J2_get
  change AW ρR γ l ck_J2_get g 0 [(0, .ref x0), (1, .int x1)] [] g _
  refine r_iload_n (pc := 0) dJ2_get_0 rfl 1 rfl ?_
  refine r_aload_n (pc := 1) dJ2_get_1 rfl 0 rfl ?_
  refine r_getI (f := 16) (pc := 2) dJ2_get_2 q210 (Or.inl rfl) rfl (fun v1 => ?_)
  refine r_cI (pc := 5) (rest := []) (run_S (n := 2) (As := [.int x1, .int v1]) (rest := []) (t_J25_checkIndex γ l hl x1 v1 g) dJ2_get_5 q846 q847 q140 q848 (by decide +kernel) rfl (Nat.le_of_ble_eq_true rfl) (Nat.le_of_ble_eq_true rfl) rfl (Nat.le_of_ble_eq_true rfl)) (fun v3 g2 => ?_)
  refine r_pop (pc := 8) dJ2_get_8 rfl ?_
  refine r_aload_n (pc := 9) dJ2_get_9 rfl 0 rfl ?_
  refine r_iload_n (pc := 10) dJ2_get_10 rfl 1 rfl ?_
  refine r_cR (pc := 11) (rest := []) (RunOK_chk (fun h => run_V (n := 1) (c9 := 3) (As := [.int x1]) (rest := []) (t_J2_elementData γ l hl x0 x1 g2) dJ2_get_11 q852 q853 q854 q112 q855 (by decide +kernel) rfl h ⟨rfl, by decide, by decide⟩ (Nat.le_of_ble_eq_true rfl) (Nat.le_of_ble_eq_true rfl) rfl (Nat.le_of_ble_eq_true rfl))) (fun v5 g4 => ?_)
  exact r_aret (pc := 14) dJ2_get_14 rfl (by first | exact Or.inl ⟨_, rfl⟩ | exact Or.inr ⟨_, rfl⟩)
abbrev ck_J4_isElementIndex : CK := ("java/util/LinkedList", prog_74_method_26_code, 2, (some .boolean), "isElementIndex", [], 1)
def f_J4_isElementIndex (γ : GP) (x0 : Nat) (x1 : Int32) (g : AH) : Option (Int32 × AH) := (if x1 < 0 then (rtN .boolean (0 : Int32) g) else gI g x0 19 fun v1 => (if v1 ≤ x1 then (rtN .boolean (0 : Int32) g) else (rtN .boolean (1 : Int32) g)))
theorem t_J4_isElementIndex (γ : GP) (l : Launch) (hl : l.stackTraces = false) (x0 : Nat) (x1 : Int32) (g : AH) : TrM ρI γ l ⟨"java/util/LinkedList", "isElementIndex", "(I)Z"⟩ (ws_ ⟨"java/util/LinkedList", "isElementIndex", "(I)Z"⟩ prog_74_method_26_code 2 (some .boolean)) 1 [.ref x0, .int x1] g (f_J4_isElementIndex γ x0 x1 g) := by
  refine TrM_of (plainFor_of_name (by decide)) (Nat.le_of_ble_eq_true rfl) ?_
  unfold f_J4_isElementIndex
  change AW ρI γ l ck_J4_isElementIndex g 0 [(0, .ref x0), (1, .int x1)] [] g _
  refine r_iload_n (pc := 0) dJ4_isElementIndex_0 rfl 1 rfl ?_
  refine r_if_lt (tgt := 16) (pc := 1) dJ4_isElementIndex_1 (by decide) ?_ ?_
  · skip
    refine r_iconst (v := (0 : Int32)) (pc := 16) dJ4_isElementIndex_16 (by decide) ?_
    exact r_zret (ty := .boolean) (pc := 17) dJ4_isElementIndex_17 rfl
  · skip
    refine r_iload_n (pc := 4) dJ4_isElementIndex_4 rfl 1 rfl ?_
    refine r_aload_n (pc := 5) dJ4_isElementIndex_5 rfl 0 rfl ?_
    refine r_getI (f := 19) (pc := 6) dJ4_isElementIndex_6 q253 (Or.inl rfl) rfl (fun v1 => ?_)
    refine r_icmp_ge (tgt := 16) (pc := 9) dJ4_isElementIndex_9 (by decide) ?_ ?_
    · skip
      refine r_iconst (v := (0 : Int32)) (pc := 16) dJ4_isElementIndex_16 (by decide) ?_
      exact r_zret (ty := .boolean) (pc := 17) dJ4_isElementIndex_17 rfl
    · skip
      refine r_iconst (v := (1 : Int32)) (pc := 12) dJ4_isElementIndex_12 (by decide) ?_
      refine r_goto (tgt := 17) (pc := 13) dJ4_isElementIndex_13 (by decide) ?_
      exact r_zret (ty := .boolean) (pc := 17) dJ4_isElementIndex_17 rfl
abbrev ck_J4_checkElementIndex : CK := ("java/util/LinkedList", prog_74_method_29_code, 2, none, "checkElementIndex", [], 2)
def f_J4_checkElementIndex (γ : GP) (x0 : Nat) (x1 : Int32) (g : AH) : Option (AH) := bI ((if hK g x0 = 5 then f_J4_isElementIndex γ x0 x1 g else none)) fun v2 g1 => (if v2 = 0 then none else (some g1))
theorem t_J4_checkElementIndex (γ : GP) (l : Launch) (hl : l.stackTraces = false) (x0 : Nat) (x1 : Int32) (g : AH) : TrM ρV γ l ⟨"java/util/LinkedList", "checkElementIndex", "(I)V"⟩ (ws_ ⟨"java/util/LinkedList", "checkElementIndex", "(I)V"⟩ prog_74_method_29_code 2 none) 2 [.ref x0, .int x1] g (f_J4_checkElementIndex γ x0 x1 g) := by
  refine TrM_of (plainFor_of_name (by decide)) (Nat.le_of_ble_eq_true rfl) ?_
  unfold f_J4_checkElementIndex
  change AW ρV γ l ck_J4_checkElementIndex g 0 [(0, .ref x0), (1, .int x1)] [] g _
  refine r_aload_n (pc := 0) dJ4_checkElementIndex_0 rfl 0 rfl ?_
  refine r_iload_n (pc := 1) dJ4_checkElementIndex_1 rfl 1 rfl ?_
  refine r_cI (pc := 2) (rest := []) (RunOK_chk (fun h => run_V (n := 1) (c9 := 5) (As := [.int x1]) (rest := []) (t_J4_isElementIndex γ l hl x0 x1 g) dJ4_checkElementIndex_2 q863 q865 qs7 q116 q866 (by decide +kernel) rfl h ⟨rfl, by decide, by decide⟩ (Nat.le_of_ble_eq_true rfl) (Nat.le_of_ble_eq_true rfl) rfl (Nat.le_of_ble_eq_true rfl))) (fun v2 g1 => ?_)
  refine r_if_ne (tgt := 21) (pc := 5) dJ4_checkElementIndex_5 (by decide) ?_ ?_
  · skip
    exact AW_none
  · skip
    exact r_vret (pc := 21) dJ4_checkElementIndex_21 rfl
abbrev ck_J4_get : CK := ("java/util/LinkedList", prog_74_method_22_code, 2, (some (.object "java/lang/Object")), "get", [], 3)
def f_J4_get (γ : GP) (x0 : Nat) (x1 : Int32) (g : AH) : Option (Nat × AH) := bV ((if hK g x0 = 5 then f_J4_checkElementIndex γ x0 x1 g else none)) fun g1 => bR ((if hK g1 x0 = 5 then f_J4_node γ x0 x1 g1 else none)) fun v3 g2 => gR g2 v3 84 fun v4 => (some (v4, g2))
theorem t_J4_get (γ : GP) (l : Launch) (hl : l.stackTraces = false) (x0 : Nat) (x1 : Int32) (g : AH) : TrM ρR γ l ⟨"java/util/LinkedList", "get", "(I)Ljava/lang/Object;"⟩ (ws_ ⟨"java/util/LinkedList", "get", "(I)Ljava/lang/Object;"⟩ prog_74_method_22_code 2 (some (.object "java/lang/Object"))) 3 [.ref x0, .int x1] g (f_J4_get γ x0 x1 g) := by
  refine TrM_of (plainFor_of_name (by decide)) (Nat.le_of_ble_eq_true rfl) ?_
  unfold f_J4_get
  change AW ρR γ l ck_J4_get g 0 [(0, .ref x0), (1, .int x1)] [] g _
  refine r_aload_n (pc := 0) dJ4_get_0 rfl 0 rfl ?_
  refine r_iload_n (pc := 1) dJ4_get_1 rfl 1 rfl ?_
  refine r_cV (pc := 2) (rest := []) (RunOK_chk (fun h => run_V (n := 1) (c9 := 5) (As := [.int x1]) (rest := []) (t_J4_checkElementIndex γ l hl x0 x1 g) dJ4_get_2 q859 q861 qs6 q116 q862 (by decide +kernel) rfl h ⟨rfl, by decide, by decide⟩ (Nat.le_of_ble_eq_true rfl) (Nat.le_of_ble_eq_true rfl) rfl (Nat.le_of_ble_eq_true rfl))) (fun g1 => ?_)
  refine r_aload_n (pc := 5) dJ4_get_5 rfl 0 rfl ?_
  refine r_iload_n (pc := 6) dJ4_get_6 rfl 1 rfl ?_
  refine r_cR (pc := 7) (rest := []) (RunOK_chk (fun h => run_V (n := 1) (c9 := 5) (As := [.int x1]) (rest := []) (t_J4_node γ l hl x0 x1 g1) dJ4_get_7 q867 q760 q761 q116 q762 (by decide +kernel) rfl h ⟨rfl, by decide, by decide⟩ (Nat.le_of_ble_eq_true rfl) (Nat.le_of_ble_eq_true rfl) rfl (Nat.le_of_ble_eq_true rfl))) (fun v3 g2 => ?_)
  refine r_getR (f := 84) (pc := 10) dJ4_get_10 q1365 (Or.inl rfl) rfl (fun v4 => ?_)
  exact r_aret (pc := 13) dJ4_get_13 rfl (by first | exact Or.inl ⟨_, rfl⟩ | exact Or.inr ⟨_, rfl⟩)
abbrev ck_J28_size : CK := ("java/util/TreeMap", prog_93_method_5_code, 1, (some .int), "size", [], 1)
def f_J28_size (γ : GP) (x0 : Nat) (g : AH) : Option (Int32 × AH) := gI g x0 71 fun v1 => (some (v1, g))
theorem t_J28_size (γ : GP) (l : Launch) (hl : l.stackTraces = false) (x0 : Nat) (g : AH) : TrM ρI γ l ⟨"java/util/TreeMap", "size", "()I"⟩ (ws_ ⟨"java/util/TreeMap", "size", "()I"⟩ prog_93_method_5_code 1 (some .int)) 1 [.ref x0] g (f_J28_size γ x0 g) := by
  refine TrM_of (plainFor_of_name (by decide)) (Nat.le_of_ble_eq_true rfl) ?_
  unfold f_J28_size
  change AW ρI γ l ck_J28_size g 0 [(0, .ref x0)] [] g _
  refine r_aload_n (pc := 0) dJ28_size_0 rfl 0 rfl ?_
  refine r_getI (f := 71) (pc := 1) dJ28_size_1 q1426 (Or.inl rfl) rfl (fun v1 => ?_)
  exact r_iret (pc := 4) dJ28_size_4 rfl
abbrev ck_J42_init : CK := ("java/util/TreeMap$Values", prog_102_method_1_code, 2, none, "<init>", [], 3)
def f_J42_init (γ : GP) (x0 : Nat) (x1 : Nat) (g : AH) : Option (AH) := pR γ g x0 105 x1 fun g1 => bV ((if x0 ≠ 0 then f_J0_init γ x0 g1 else none)) fun g2 => (some g2)
theorem t_J42_init (γ : GP) (l : Launch) (hl : l.stackTraces = false) (x0 : Nat) (x1 : Nat) (g : AH) : TrM ρV γ l ⟨"java/util/TreeMap$Values", "<init>", "(Ljava/util/TreeMap;)V"⟩ (ws_ ⟨"java/util/TreeMap$Values", "<init>", "(Ljava/util/TreeMap;)V"⟩ prog_102_method_1_code 2 none) 3 [.ref x0, .ref x1] g (f_J42_init γ x0 x1 g) := by
  refine TrM_of (plainFor_of_name (by decide)) (Nat.le_of_ble_eq_true rfl) ?_
  unfold f_J42_init
  change AW ρV γ l ck_J42_init g 0 [(0, .ref x0), (1, .ref x1)] [] g _
  refine r_aload_n (pc := 0) dJ42_init_0 rfl 0 rfl ?_
  refine r_aload_n (pc := 1) dJ42_init_1 rfl 1 rfl ?_
  refine r_putR (f := 105) (pc := 2) dJ42_init_2 q1084 (Or.inl rfl) (Or.inr ⟨rfl, rfl⟩) rfl (fun g1 => ?_)
  refine r_aload_n (pc := 5) dJ42_init_5 rfl 0 rfl ?_
  refine r_cV (pc := 6) (rest := []) (RunOK_chk (fun h => run_I (n := 0) (As := []) (rest := []) (t_J0_init γ l hl x0 g1) dJ42_init_6 q1083 q202 q110 q203 rfl (by decide +kernel) rfl h (Nat.le_of_ble_eq_true rfl) (Nat.le_of_ble_eq_true rfl) rfl (Nat.le_of_ble_eq_true rfl))) (fun g2 => ?_)
  exact r_vret (pc := 9) dJ42_init_9 rfl
abbrev ck_J28_values : CK := ("java/util/TreeMap", prog_93_method_52_code, 2, (some (.object "java/util/Collection")), "values", [], 4)
def f_J28_values (γ : GP) (x0 : Nat) (g : AH) : Option (Nat × AH) := gR g x0 68 fun v1 => (if v1 = 0 then mO g 26 fun q2 g3 => bV ((if q2 ≠ 0 then f_J42_init γ q2 x0 g3 else none)) fun g4 => pR γ g4 x0 68 q2 fun g5 => (some (q2, g5)) else (some (v1, g)))
theorem t_J28_values (γ : GP) (l : Launch) (hl : l.stackTraces = false) (x0 : Nat) (g : AH) : TrM ρR γ l ⟨"java/util/TreeMap", "values", "()Ljava/util/Collection;"⟩ (ws_ ⟨"java/util/TreeMap", "values", "()Ljava/util/Collection;"⟩ prog_93_method_52_code 2 (some (.object "java/util/Collection"))) 4 [.ref x0] g (f_J28_values γ x0 g) := by
  refine TrM_of (plainFor_of_name (by decide)) (Nat.le_of_ble_eq_true rfl) ?_
  unfold f_J28_values
  change AW ρR γ l ck_J28_values g 0 [(0, .ref x0)] [] g _
  refine r_aload_n (pc := 0) dJ28_values_0 rfl 0 rfl ?_
  refine r_getR (f := 68) (pc := 1) dJ28_values_1 q1431 (Or.inr q1432) rfl (fun v1 => ?_)
  refine r_astore_n (pc := 4) dJ28_values_4 rfl (Nat.le_of_ble_eq_true rfl) rfl ?_
  refine r_aload_n (pc := 5) dJ28_values_5 rfl 0 rfl ?_
  refine r_ifnonnull (tgt := 23) (pc := 6) dJ28_values_6 (by decide) ?_ ?_
  · skip
    refine r_new (c := 26) (pc := 9) dJ28_values_9 q1078 (by decide) (by decide) (fun q2 g3 => ?_)
    refine r_dup (pc := 12) dJ28_values_12 rfl ?_
    refine r_aload_n (pc := 13) dJ28_values_13 rfl 1 rfl ?_
    refine r_cV (pc := 14) (rest := [.ref q2]) (RunOK_chk (fun h => run_I (n := 1) (As := [.ref x0]) (rest := [.ref q2]) (t_J42_init γ l hl q2 x0 g3) dJ28_values_14 q1080 q1081 q164 q1082 rfl (by decide +kernel) rfl h (Nat.le_of_ble_eq_true rfl) (Nat.le_of_ble_eq_true rfl) rfl (Nat.le_of_ble_eq_true rfl))) (fun g4 => ?_)
    refine r_astore_n (pc := 17) dJ28_values_17 rfl (Nat.le_of_ble_eq_true rfl) rfl ?_
    refine r_aload_n (pc := 18) dJ28_values_18 rfl 1 rfl ?_
    refine r_aload_n (pc := 19) dJ28_values_19 rfl 0 rfl ?_
    refine r_putR (f := 68) (pc := 20) dJ28_values_20 q1431 (Or.inr q1432) (Or.inl rfl) rfl (fun g5 => ?_)
    refine r_aload_n (pc := 23) dJ28_values_23 rfl 0 rfl ?_
    exact r_aret (pc := 24) dJ28_values_24 rfl (by first | exact Or.inl ⟨_, rfl⟩ | exact Or.inr ⟨_, rfl⟩)
  · skip
    refine r_aload_n (pc := 23) dJ28_values_23 rfl 0 rfl ?_
    exact r_aret (pc := 24) dJ28_values_24 rfl (by first | exact Or.inl ⟨_, rfl⟩ | exact Or.inr ⟨_, rfl⟩)
abbrev ck_J32_init : CK := ("java/util/TreeMap$ValueIterator", prog_101_method_1_code, 3, none, "<init>", [], 3)
def f_J32_init (γ : GP) (x0 : Nat) (x1 : Nat) (x2 : Nat) (g : AH) : Option (AH) := bV ((if x0 ≠ 0 then f_J29_init γ x0 x1 x2 g else none)) fun g1 => (some g1)
theorem t_J32_init (γ : GP) (l : Launch) (hl : l.stackTraces = false) (x0 : Nat) (x1 : Nat) (x2 : Nat) (g : AH) : TrM ρV γ l ⟨"java/util/TreeMap$ValueIterator", "<init>", "(Ljava/util/TreeMap;Ljava/util/TreeMap$Entry;)V"⟩ (ws_ ⟨"java/util/TreeMap$ValueIterator", "<init>", "(Ljava/util/TreeMap;Ljava/util/TreeMap$Entry;)V"⟩ prog_101_method_1_code 3 none) 3 [.ref x0, .ref x1, .ref x2] g (f_J32_init γ x0 x1 x2 g) := by
  refine TrM_of (plainFor_of_name (by decide)) (Nat.le_of_ble_eq_true rfl) ?_
  unfold f_J32_init
  change AW ρV γ l ck_J32_init g 0 [(0, .ref x0), (1, .ref x1), (2, .ref x2)] [] g _
  refine r_aload_n (pc := 0) dJ32_init_0 rfl 0 rfl ?_
  refine r_aload_n (pc := 1) dJ32_init_1 rfl 1 rfl ?_
  refine r_aload_n (pc := 2) dJ32_init_2 rfl 2 rfl ?_
  refine r_cV (pc := 3) (rest := []) (RunOK_chk (fun h => run_I (n := 2) (As := [.ref x1, .ref x2]) (rest := []) (t_J29_init γ l hl x0 x1 x2 g) dJ32_init_3 q1167 q1112 q145 q1113 rfl (by decide +kernel) rfl h (Nat.le_of_ble_eq_true rfl) (Nat.le_of_ble_eq_true rfl) rfl (Nat.le_of_ble_eq_true rfl))) (fun g1 => ?_)
  exact r_vret (pc := 6) dJ32_init_6 rfl
abbrev ck_J42_iterator : CK := ("java/util/TreeMap$Values", prog_102_method_2_code, 1, (some (.object "java/util/Iterator")), "iterator", [], 4)
def f_J42_iterator (γ : GP) (x0 : Nat) (g : AH) : Option (Nat × AH) := mO g 18 fun q1 g2 => gR g2 x0 105 fun v3 => gR g2 x0 105 fun v4 => bR ((if hK g2 v4 = 15 then f_J28_getFirstEntry γ v4 g2 else none)) fun v6 g5 => bV ((if q1 ≠ 0 then f_J32_init γ q1 v3 v6 g5 else none)) fun g7 => (some (q1, g7))
theorem t_J42_iterator (γ : GP) (l : Launch) (hl : l.stackTraces = false) (x0 : Nat) (g : AH) : TrM ρR γ l ⟨"java/util/TreeMap$Values", "iterator", "()Ljava/util/Iterator;"⟩ (ws_ ⟨"java/util/TreeMap$Values", "iterator", "()Ljava/util/Iterator;"⟩ prog_102_method_2_code 1 (some (.object "java/util/Iterator"))) 4 [.ref x0] g (f_J42_iterator γ x0 g) := by
  refine TrM_of (plainFor_of_name (by decide)) (Nat.le_of_ble_eq_true rfl) ?_
  unfold f_J42_iterator
  change AW ρR γ l ck_J42_iterator g 0 [(0, .ref x0)] [] g _
  refine r_new (c := 18) (pc := 0) dJ42_iterator_0 q1161 (by decide) (by decide) (fun q1 g2 => ?_)
  refine r_dup (pc := 3) dJ42_iterator_3 rfl ?_
  refine r_aload_n (pc := 4) dJ42_iterator_4 rfl 0 rfl ?_
  refine r_getR (f := 105) (pc := 5) dJ42_iterator_5 q1084 (Or.inl rfl) rfl (fun v3 => ?_)
  refine r_aload_n (pc := 8) dJ42_iterator_8 rfl 0 rfl ?_
  refine r_getR (f := 105) (pc := 9) dJ42_iterator_9 q1084 (Or.inl rfl) rfl (fun v4 => ?_)
  refine r_cR (pc := 12) (rest := [.ref v3, .ref q1, .ref q1]) (RunOK_chk (fun h => run_V (n := 0) (c9 := 15) (As := []) (rest := [.ref v3, .ref q1, .ref q1]) (t_J28_getFirstEntry γ l hl v4 g2) dJ42_iterator_12 q1163 q1105 q1106 q143 q1107 (by decide +kernel) rfl h ⟨rfl, by decide, by decide⟩ (Nat.le_of_ble_eq_true rfl) (Nat.le_of_ble_eq_true rfl) rfl (Nat.le_of_ble_eq_true rfl))) (fun v6 g5 => ?_)
  refine r_cV (pc := 15) (rest := [.ref q1]) (RunOK_chk (fun h => run_I (n := 2) (As := [.ref v3, .ref v6]) (rest := [.ref q1]) (t_J32_init γ l hl q1 v3 v6 g5) dJ42_iterator_15 q1164 q1165 q148 q1166 rfl (by decide +kernel) rfl h (Nat.le_of_ble_eq_true rfl) (Nat.le_of_ble_eq_true rfl) rfl (Nat.le_of_ble_eq_true rfl))) (fun g7 => ?_)
  exact r_aret (pc := 18) dJ42_iterator_18 rfl (by first | exact Or.inl ⟨_, rfl⟩ | exact Or.inr ⟨_, rfl⟩)
abbrev ck_J26_init_2 : CK := ("java/util/NoSuchElementException", prog_83_method_1_code, 1, none, "<init>", [], 7)
def f_J26_init_2 (γ : GP) (x0 : Nat) (g : AH) : Option (AH) := bV ((if x0 ≠ 0 then f_J11_init_3 γ x0 g else none)) fun g1 => (some g1)
theorem t_J26_init_2 (γ : GP) (l : Launch) (hl : l.stackTraces = false) (x0 : Nat) (g : AH) : TrM ρV γ l ⟨"java/util/NoSuchElementException", "<init>", "()V"⟩ (ws_ ⟨"java/util/NoSuchElementException", "<init>", "()V"⟩ prog_83_method_1_code 1 none) 7 [.ref x0] g (f_J26_init_2 γ x0 g) := by
  refine TrM_of (plainFor_of_name (by decide)) (Nat.le_of_ble_eq_true rfl) ?_
  unfold f_J26_init_2
  change AW ρV γ l ck_J26_init_2 g 0 [(0, .ref x0)] [] g _
  refine r_aload_n (pc := 0) dJ26_init_2_0 rfl 0 rfl ?_
  refine r_cV (pc := 1) (rest := []) (RunOK_chk (fun h => run_I (n := 0) (As := []) (rest := []) (t_J11_init_3 γ l hl x0 g) dJ26_init_2_1 q1006 q1007 q124 q1008 rfl (by decide +kernel) rfl h (Nat.le_of_ble_eq_true rfl) (Nat.le_of_ble_eq_true rfl) rfl (Nat.le_of_ble_eq_true rfl))) (fun g1 => ?_)
  exact r_vret (pc := 4) dJ26_init_2_4 rfl
abbrev ck_J38_ordinal : CK := ("java/lang/Enum", prog_35_method_2_code, 1, (some .int), "ordinal", [], 1)
def f_J38_ordinal (γ : GP) (x0 : Nat) (g : AH) : Option (Int32 × AH) := gI g x0 130 fun v1 => (some (v1, g))
theorem t_J38_ordinal (γ : GP) (l : Launch) (hl : l.stackTraces = false) (x0 : Nat) (g : AH) : TrM ρI γ l ⟨"java/lang/Enum", "ordinal", "()I"⟩ (ws_ ⟨"java/lang/Enum", "ordinal", "()I"⟩ prog_35_method_2_code 1 (some .int)) 1 [.ref x0] g (f_J38_ordinal γ x0 g) := by
  refine TrM_of (plainFor_of_name (by decide)) (Nat.le_of_ble_eq_true rfl) ?_
  unfold f_J38_ordinal
  change AW ρI γ l ck_J38_ordinal g 0 [(0, .ref x0)] [] g _
  refine r_aload_n (pc := 0) dJ38_ordinal_0 rfl 0 rfl ?_
  refine r_getI (f := 130) (pc := 1) dJ38_ordinal_1 q3990 (Or.inl rfl) rfl (fun v1 => ?_)
  exact r_iret (pc := 4) dJ38_ordinal_4 rfl
abbrev ck_J7_isLatin1 : CK := ("java/lang/String", prog_48_method_154_code, 1, (some .boolean), "isLatin1", [], 1)
def f_J7_isLatin1 (γ : GP) (x0 : Nat) (g : AH) : Option (Int32 × AH) := (if (1 : Int32) = 0 then (rtN .boolean (0 : Int32) g) else gI g x0 27 fun v1 => (if v1 = 0 then (rtN .boolean (1 : Int32) g) else (rtN .boolean (0 : Int32) g)))
theorem t_J7_isLatin1 (γ : GP) (l : Launch) (hl : l.stackTraces = false) (x0 : Nat) (g : AH) : TrM ρI γ l ⟨"java/lang/String", "isLatin1", "()Z"⟩ (ws_ ⟨"java/lang/String", "isLatin1", "()Z"⟩ prog_48_method_154_code 1 (some .boolean)) 1 [.ref x0] g (f_J7_isLatin1 γ x0 g) := by
  refine TrM_of (plainFor_of_name (by decide)) (Nat.le_of_ble_eq_true rfl) ?_
  unfold f_J7_isLatin1
  change AW ρI γ l ck_J7_isLatin1 g 0 [(0, .ref x0)] [] g _
  refine r_getsI (v := (1 : Int32)) (pc := 0) dJ7_isLatin1_0 q546 (List.mem_of_getElem? (i := 0) rfl) rfl ?_
  refine r_if_eq (tgt := 17) (pc := 3) dJ7_isLatin1_3 (by decide) ?_ ?_
  · skip
    refine r_iconst (v := (0 : Int32)) (pc := 17) dJ7_isLatin1_17 (by decide) ?_
    exact r_zret (ty := .boolean) (pc := 18) dJ7_isLatin1_18 rfl
  · skip
    refine r_aload_n (pc := 6) dJ7_isLatin1_6 rfl 0 rfl ?_
    refine r_getI (f := 27) (pc := 7) dJ7_isLatin1_7 q697 (Or.inl rfl) rfl (fun v1 => ?_)
    refine r_if_ne (tgt := 17) (pc := 10) dJ7_isLatin1_10 (by decide) ?_ ?_
    · skip
      refine r_iconst (v := (1 : Int32)) (pc := 13) dJ7_isLatin1_13 (by decide) ?_
      refine r_goto (tgt := 18) (pc := 14) dJ7_isLatin1_14 (by decide) ?_
      exact r_zret (ty := .boolean) (pc := 18) dJ7_isLatin1_18 rfl
    · skip
      refine r_iconst (v := (0 : Int32)) (pc := 17) dJ7_isLatin1_17 (by decide) ?_
      exact r_zret (ty := .boolean) (pc := 18) dJ7_isLatin1_18 rfl
