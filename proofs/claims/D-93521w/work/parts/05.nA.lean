/-! DECODE ROWS BY BYTES: one lemma an opcode; a method's code is cut into short pieces once, and a row reads its own piece alone. -/
set_option maxRecDepth 100000
/-- the code has just these bytes from pc on -/
def DkAt (code : ByteArray) (pc : Nat) (bs : List UInt8) : Prop := ∀ (j : Nat) (b : UInt8), bs[j]? = some b → code.data.toList[pc + j]? = some b
/-- the piece W has the bytes bs from its place j on -/
def dkIn (W : List UInt8) (j : Nat) (bs : List UInt8) : Bool := decide ((W.drop j).take bs.length = bs)
theorem dk_seg {l W T : List UInt8} {o o2 : Nat} (h : l.drop o = W ++ T) (n : Nat) (hn : W.length = n) (ho : o + n = o2) : l.drop o2 = T := by
  subst ho
  rw [← List.drop_drop, h, List.drop_left' hn]
theorem dk_at {code : ByteArray} {W T bs : List UInt8} {o pc : Nat} (h : code.data.toList.drop o = W ++ T) (j : Nat) (hp : o + j = pc) (hw : dkIn W j bs = true) : DkAt code pc bs := by
  subst hp
  intro i b e
  have h1 := of_decide_eq_true hw
  have h2 : i < bs.length := (List.getElem?_eq_some_iff.mp e).1
  have h3 : W[j + i]? = some b := by
    rw [← h1, List.getElem?_take, if_pos h2, List.getElem?_drop] at e
    exact e
  have h4 : j + i < W.length := (List.getElem?_eq_some_iff.mp h3).1
  have h5 : (code.data.toList.drop o)[j + i]? = some b := by
    rw [h, List.getElem?_append_left h4]
    exact h3
  rw [List.getElem?_drop, ← Nat.add_assoc] at h5
  exact h5
theorem dk_u1 {A : ByteArray} {p : Nat} {b : UInt8} (h : A.data.toList[p]? = some b) : (Reader.u1 : Reader DecodeError Nat) A p = .ok (b.toNat, p + 1) := by
  obtain ⟨h1, h2⟩ := List.getElem?_eq_some_iff.mp h
  have h3 : p < A.size := by simpa using h1
  have h4 : A[p]'h3 = b := h2
  have e : (Reader.u1 : Reader DecodeError Nat) A p = (if h : p < A.size then .ok (A[p].toNat, p + 1) else .error (HasTruncated.truncated p)) := by
    show (do if h : p < A.size then do set (p + 1); Pure.pure A[p].toNat else MonadExcept.throw (HasTruncated.truncated p) : Reader DecodeError Nat) A p = _
    by_cases hi : p < A.size
    · rw [dif_pos hi, dif_pos hi]; rfl
    · rw [dif_neg hi, dif_neg hi]; rfl
  rw [e, dif_pos h3, h4]
theorem dk_bind {α β : Type} {r : Reader DecodeError α} {f : α → Reader DecodeError β} {A : ByteArray} {p s : Nat} {a : α} (h : r A p = .ok (a, s)) : (r >>= f) A p = f a A s := by
  show (do let (a, s) ← r A p; f a A s : Except DecodeError (β × Nat)) = _
  rw [h]
  rfl
theorem dk_map {α β : Type} {r : Reader DecodeError α} {g : α → β} {A : ByteArray} {p s : Nat} {a : α} (h : r A p = .ok (a, s)) : (g <$> r) A p = .ok (g a, s) := by
  show (do let (a, s) ← r A p; .ok (g a, s) : Except DecodeError (β × Nat)) = _
  rw [h]
  rfl
theorem dk_u2 {A : ByteArray} {p : Nat} {a b : UInt8} (h : A.data.toList[p]? = some a) (h2 : A.data.toList[p + 1]? = some b) : (Reader.u2 : Reader DecodeError Nat) A p = .ok (a.toNat * 256 + b.toNat, p + 2) := by
  show (Reader.u1 >>= fun hi => Reader.u1 >>= fun lo => Pure.pure (hi * 256 + lo) : Reader DecodeError Nat) A p = _
  rw [dk_bind (dk_u1 h), dk_bind (dk_u1 h2)]
  rfl
theorem dk_of {code : ByteArray} {pc n : Nat} {i : Instr} (h : Decoder.instr pc code pc = .ok (i, pc + n)) : decode code pc = .ok (i, n) := by
  have e : decode code pc = (match Decoder.instr pc code pc with | .error x => .error x | .ok (j, s) => .ok (j, s - pc)) := by
    show (do let (j, s) ← Decoder.instr pc code pc; Pure.pure (j, s - pc) : Except DecodeError (Instr × Nat)) = _
    cases Decoder.instr pc code pc <;> rfl
  rw [e, h]
  show Except.ok (i, pc + n - pc) = _
  rw [Nat.add_sub_cancel_left]
theorem dk_1 {code : ByteArray} {pc : Nat} (h : DkAt code pc [1]) : decode code pc = .ok (.aconst_null, 1) := dk_of ((dk_bind (dk_u1 (h 0 _ rfl))).trans rfl)
theorem dk_2 {code : ByteArray} {pc : Nat} (h : DkAt code pc [2]) : decode code pc = .ok (.iconst (-1), 1) := dk_of ((dk_bind (dk_u1 (h 0 _ rfl))).trans rfl)
theorem dk_3 {code : ByteArray} {pc : Nat} (h : DkAt code pc [3]) : decode code pc = .ok (.iconst 0, 1) := dk_of ((dk_bind (dk_u1 (h 0 _ rfl))).trans rfl)
theorem dk_4 {code : ByteArray} {pc : Nat} (h : DkAt code pc [4]) : decode code pc = .ok (.iconst 1, 1) := dk_of ((dk_bind (dk_u1 (h 0 _ rfl))).trans rfl)
theorem dk_5 {code : ByteArray} {pc : Nat} (h : DkAt code pc [5]) : decode code pc = .ok (.iconst 2, 1) := dk_of ((dk_bind (dk_u1 (h 0 _ rfl))).trans rfl)
theorem dk_6 {code : ByteArray} {pc : Nat} (h : DkAt code pc [6]) : decode code pc = .ok (.iconst 3, 1) := dk_of ((dk_bind (dk_u1 (h 0 _ rfl))).trans rfl)
theorem dk_7 {code : ByteArray} {pc : Nat} (h : DkAt code pc [7]) : decode code pc = .ok (.iconst 4, 1) := dk_of ((dk_bind (dk_u1 (h 0 _ rfl))).trans rfl)
theorem dk_8 {code : ByteArray} {pc : Nat} (h : DkAt code pc [8]) : decode code pc = .ok (.iconst 5, 1) := dk_of ((dk_bind (dk_u1 (h 0 _ rfl))).trans rfl)
theorem dk_9 {code : ByteArray} {pc : Nat} (h : DkAt code pc [9]) : decode code pc = .ok (.lconst 0, 1) := dk_of ((dk_bind (dk_u1 (h 0 _ rfl))).trans rfl)
theorem dk_10 {code : ByteArray} {pc : Nat} (h : DkAt code pc [10]) : decode code pc = .ok (.lconst 1, 1) := dk_of ((dk_bind (dk_u1 (h 0 _ rfl))).trans rfl)
theorem dk_11 {code : ByteArray} {pc : Nat} (h : DkAt code pc [11]) : decode code pc = .ok (.fconst 0, 1) := dk_of ((dk_bind (dk_u1 (h 0 _ rfl))).trans rfl)
theorem dk_14 {code : ByteArray} {pc : Nat} (h : DkAt code pc [14]) : decode code pc = .ok (.dconst 0, 1) := dk_of ((dk_bind (dk_u1 (h 0 _ rfl))).trans rfl)
theorem dk_16 {code : ByteArray} {pc : Nat} (a : UInt8) (h : DkAt code pc [16, a]) : decode code pc = .ok (.bipush (Reader.signed 8 a.toNat), 2) := dk_of ((dk_bind (dk_u1 (h 0 _ rfl))).trans ((dk_bind (dk_map (dk_u1 (h 1 _ rfl)))).trans rfl))
theorem dk_17 {code : ByteArray} {pc : Nat} (a b : UInt8) (h : DkAt code pc [17, a, b]) : decode code pc = .ok (.sipush (Reader.signed 16 (a.toNat * 256 + b.toNat)), 3) := dk_of ((dk_bind (dk_u1 (h 0 _ rfl))).trans ((dk_bind (dk_map (dk_u2 (h 1 _ rfl) (h 2 _ rfl)))).trans rfl))
theorem dk_18 {code : ByteArray} {pc : Nat} (a : UInt8) (h : DkAt code pc [18, a]) : decode code pc = .ok (.ldc a.toNat, 2) := dk_of ((dk_bind (dk_u1 (h 0 _ rfl))).trans ((dk_bind (dk_u1 (h 1 _ rfl))).trans rfl))
theorem dk_19 {code : ByteArray} {pc : Nat} (a b : UInt8) (h : DkAt code pc [19, a, b]) : decode code pc = .ok (.ldc_w (a.toNat * 256 + b.toNat), 3) := dk_of ((dk_bind (dk_u1 (h 0 _ rfl))).trans ((dk_bind (dk_u2 (h 1 _ rfl) (h 2 _ rfl))).trans rfl))
theorem dk_20 {code : ByteArray} {pc : Nat} (a b : UInt8) (h : DkAt code pc [20, a, b]) : decode code pc = .ok (.ldc2_w (a.toNat * 256 + b.toNat), 3) := dk_of ((dk_bind (dk_u1 (h 0 _ rfl))).trans ((dk_bind (dk_u2 (h 1 _ rfl) (h 2 _ rfl))).trans rfl))
theorem dk_21 {code : ByteArray} {pc : Nat} (a : UInt8) (h : DkAt code pc [21, a]) : decode code pc = .ok (.iload a.toNat, 2) := dk_of ((dk_bind (dk_u1 (h 0 _ rfl))).trans ((dk_bind (dk_u1 (h 1 _ rfl))).trans rfl))
theorem dk_22 {code : ByteArray} {pc : Nat} (a : UInt8) (h : DkAt code pc [22, a]) : decode code pc = .ok (.lload a.toNat, 2) := dk_of ((dk_bind (dk_u1 (h 0 _ rfl))).trans ((dk_bind (dk_u1 (h 1 _ rfl))).trans rfl))
theorem dk_23 {code : ByteArray} {pc : Nat} (a : UInt8) (h : DkAt code pc [23, a]) : decode code pc = .ok (.fload a.toNat, 2) := dk_of ((dk_bind (dk_u1 (h 0 _ rfl))).trans ((dk_bind (dk_u1 (h 1 _ rfl))).trans rfl))
theorem dk_24 {code : ByteArray} {pc : Nat} (a : UInt8) (h : DkAt code pc [24, a]) : decode code pc = .ok (.dload a.toNat, 2) := dk_of ((dk_bind (dk_u1 (h 0 _ rfl))).trans ((dk_bind (dk_u1 (h 1 _ rfl))).trans rfl))
theorem dk_25 {code : ByteArray} {pc : Nat} (a : UInt8) (h : DkAt code pc [25, a]) : decode code pc = .ok (.aload a.toNat, 2) := dk_of ((dk_bind (dk_u1 (h 0 _ rfl))).trans ((dk_bind (dk_u1 (h 1 _ rfl))).trans rfl))
theorem dk_26 {code : ByteArray} {pc : Nat} (h : DkAt code pc [26]) : decode code pc = .ok (.iload_n 0, 1) := dk_of ((dk_bind (dk_u1 (h 0 _ rfl))).trans rfl)
theorem dk_27 {code : ByteArray} {pc : Nat} (h : DkAt code pc [27]) : decode code pc = .ok (.iload_n 1, 1) := dk_of ((dk_bind (dk_u1 (h 0 _ rfl))).trans rfl)
theorem dk_28 {code : ByteArray} {pc : Nat} (h : DkAt code pc [28]) : decode code pc = .ok (.iload_n 2, 1) := dk_of ((dk_bind (dk_u1 (h 0 _ rfl))).trans rfl)
theorem dk_29 {code : ByteArray} {pc : Nat} (h : DkAt code pc [29]) : decode code pc = .ok (.iload_n 3, 1) := dk_of ((dk_bind (dk_u1 (h 0 _ rfl))).trans rfl)
theorem dk_30 {code : ByteArray} {pc : Nat} (h : DkAt code pc [30]) : decode code pc = .ok (.lload_n 0, 1) := dk_of ((dk_bind (dk_u1 (h 0 _ rfl))).trans rfl)
theorem dk_31 {code : ByteArray} {pc : Nat} (h : DkAt code pc [31]) : decode code pc = .ok (.lload_n 1, 1) := dk_of ((dk_bind (dk_u1 (h 0 _ rfl))).trans rfl)
theorem dk_32 {code : ByteArray} {pc : Nat} (h : DkAt code pc [32]) : decode code pc = .ok (.lload_n 2, 1) := dk_of ((dk_bind (dk_u1 (h 0 _ rfl))).trans rfl)
theorem dk_33 {code : ByteArray} {pc : Nat} (h : DkAt code pc [33]) : decode code pc = .ok (.lload_n 3, 1) := dk_of ((dk_bind (dk_u1 (h 0 _ rfl))).trans rfl)
theorem dk_42 {code : ByteArray} {pc : Nat} (h : DkAt code pc [42]) : decode code pc = .ok (.aload_n 0, 1) := dk_of ((dk_bind (dk_u1 (h 0 _ rfl))).trans rfl)
theorem dk_43 {code : ByteArray} {pc : Nat} (h : DkAt code pc [43]) : decode code pc = .ok (.aload_n 1, 1) := dk_of ((dk_bind (dk_u1 (h 0 _ rfl))).trans rfl)
theorem dk_44 {code : ByteArray} {pc : Nat} (h : DkAt code pc [44]) : decode code pc = .ok (.aload_n 2, 1) := dk_of ((dk_bind (dk_u1 (h 0 _ rfl))).trans rfl)
theorem dk_45 {code : ByteArray} {pc : Nat} (h : DkAt code pc [45]) : decode code pc = .ok (.aload_n 3, 1) := dk_of ((dk_bind (dk_u1 (h 0 _ rfl))).trans rfl)
theorem dk_46 {code : ByteArray} {pc : Nat} (h : DkAt code pc [46]) : decode code pc = .ok (.iaload, 1) := dk_of ((dk_bind (dk_u1 (h 0 _ rfl))).trans rfl)
theorem dk_47 {code : ByteArray} {pc : Nat} (h : DkAt code pc [47]) : decode code pc = .ok (.laload, 1) := dk_of ((dk_bind (dk_u1 (h 0 _ rfl))).trans rfl)
theorem dk_49 {code : ByteArray} {pc : Nat} (h : DkAt code pc [49]) : decode code pc = .ok (.daload, 1) := dk_of ((dk_bind (dk_u1 (h 0 _ rfl))).trans rfl)
theorem dk_50 {code : ByteArray} {pc : Nat} (h : DkAt code pc [50]) : decode code pc = .ok (.aaload, 1) := dk_of ((dk_bind (dk_u1 (h 0 _ rfl))).trans rfl)
theorem dk_51 {code : ByteArray} {pc : Nat} (h : DkAt code pc [51]) : decode code pc = .ok (.baload, 1) := dk_of ((dk_bind (dk_u1 (h 0 _ rfl))).trans rfl)
theorem dk_52 {code : ByteArray} {pc : Nat} (h : DkAt code pc [52]) : decode code pc = .ok (.caload, 1) := dk_of ((dk_bind (dk_u1 (h 0 _ rfl))).trans rfl)
theorem dk_54 {code : ByteArray} {pc : Nat} (a : UInt8) (h : DkAt code pc [54, a]) : decode code pc = .ok (.istore a.toNat, 2) := dk_of ((dk_bind (dk_u1 (h 0 _ rfl))).trans ((dk_bind (dk_u1 (h 1 _ rfl))).trans rfl))
theorem dk_55 {code : ByteArray} {pc : Nat} (a : UInt8) (h : DkAt code pc [55, a]) : decode code pc = .ok (.lstore a.toNat, 2) := dk_of ((dk_bind (dk_u1 (h 0 _ rfl))).trans ((dk_bind (dk_u1 (h 1 _ rfl))).trans rfl))
theorem dk_56 {code : ByteArray} {pc : Nat} (a : UInt8) (h : DkAt code pc [56, a]) : decode code pc = .ok (.fstore a.toNat, 2) := dk_of ((dk_bind (dk_u1 (h 0 _ rfl))).trans ((dk_bind (dk_u1 (h 1 _ rfl))).trans rfl))
theorem dk_57 {code : ByteArray} {pc : Nat} (a : UInt8) (h : DkAt code pc [57, a]) : decode code pc = .ok (.dstore a.toNat, 2) := dk_of ((dk_bind (dk_u1 (h 0 _ rfl))).trans ((dk_bind (dk_u1 (h 1 _ rfl))).trans rfl))
theorem dk_58 {code : ByteArray} {pc : Nat} (a : UInt8) (h : DkAt code pc [58, a]) : decode code pc = .ok (.astore a.toNat, 2) := dk_of ((dk_bind (dk_u1 (h 0 _ rfl))).trans ((dk_bind (dk_u1 (h 1 _ rfl))).trans rfl))
theorem dk_59 {code : ByteArray} {pc : Nat} (h : DkAt code pc [59]) : decode code pc = .ok (.istore_n 0, 1) := dk_of ((dk_bind (dk_u1 (h 0 _ rfl))).trans rfl)
theorem dk_60 {code : ByteArray} {pc : Nat} (h : DkAt code pc [60]) : decode code pc = .ok (.istore_n 1, 1) := dk_of ((dk_bind (dk_u1 (h 0 _ rfl))).trans rfl)
theorem dk_61 {code : ByteArray} {pc : Nat} (h : DkAt code pc [61]) : decode code pc = .ok (.istore_n 2, 1) := dk_of ((dk_bind (dk_u1 (h 0 _ rfl))).trans rfl)
theorem dk_62 {code : ByteArray} {pc : Nat} (h : DkAt code pc [62]) : decode code pc = .ok (.istore_n 3, 1) := dk_of ((dk_bind (dk_u1 (h 0 _ rfl))).trans rfl)
theorem dk_63 {code : ByteArray} {pc : Nat} (h : DkAt code pc [63]) : decode code pc = .ok (.lstore_n 0, 1) := dk_of ((dk_bind (dk_u1 (h 0 _ rfl))).trans rfl)
theorem dk_64 {code : ByteArray} {pc : Nat} (h : DkAt code pc [64]) : decode code pc = .ok (.lstore_n 1, 1) := dk_of ((dk_bind (dk_u1 (h 0 _ rfl))).trans rfl)
theorem dk_65 {code : ByteArray} {pc : Nat} (h : DkAt code pc [65]) : decode code pc = .ok (.lstore_n 2, 1) := dk_of ((dk_bind (dk_u1 (h 0 _ rfl))).trans rfl)
theorem dk_66 {code : ByteArray} {pc : Nat} (h : DkAt code pc [66]) : decode code pc = .ok (.lstore_n 3, 1) := dk_of ((dk_bind (dk_u1 (h 0 _ rfl))).trans rfl)
theorem dk_75 {code : ByteArray} {pc : Nat} (h : DkAt code pc [75]) : decode code pc = .ok (.astore_n 0, 1) := dk_of ((dk_bind (dk_u1 (h 0 _ rfl))).trans rfl)
theorem dk_76 {code : ByteArray} {pc : Nat} (h : DkAt code pc [76]) : decode code pc = .ok (.astore_n 1, 1) := dk_of ((dk_bind (dk_u1 (h 0 _ rfl))).trans rfl)
theorem dk_77 {code : ByteArray} {pc : Nat} (h : DkAt code pc [77]) : decode code pc = .ok (.astore_n 2, 1) := dk_of ((dk_bind (dk_u1 (h 0 _ rfl))).trans rfl)
theorem dk_78 {code : ByteArray} {pc : Nat} (h : DkAt code pc [78]) : decode code pc = .ok (.astore_n 3, 1) := dk_of ((dk_bind (dk_u1 (h 0 _ rfl))).trans rfl)
theorem dk_79 {code : ByteArray} {pc : Nat} (h : DkAt code pc [79]) : decode code pc = .ok (.iastore, 1) := dk_of ((dk_bind (dk_u1 (h 0 _ rfl))).trans rfl)
theorem dk_80 {code : ByteArray} {pc : Nat} (h : DkAt code pc [80]) : decode code pc = .ok (.lastore, 1) := dk_of ((dk_bind (dk_u1 (h 0 _ rfl))).trans rfl)
theorem dk_82 {code : ByteArray} {pc : Nat} (h : DkAt code pc [82]) : decode code pc = .ok (.dastore, 1) := dk_of ((dk_bind (dk_u1 (h 0 _ rfl))).trans rfl)
theorem dk_83 {code : ByteArray} {pc : Nat} (h : DkAt code pc [83]) : decode code pc = .ok (.aastore, 1) := dk_of ((dk_bind (dk_u1 (h 0 _ rfl))).trans rfl)
theorem dk_84 {code : ByteArray} {pc : Nat} (h : DkAt code pc [84]) : decode code pc = .ok (.bastore, 1) := dk_of ((dk_bind (dk_u1 (h 0 _ rfl))).trans rfl)
theorem dk_85 {code : ByteArray} {pc : Nat} (h : DkAt code pc [85]) : decode code pc = .ok (.castore, 1) := dk_of ((dk_bind (dk_u1 (h 0 _ rfl))).trans rfl)
theorem dk_87 {code : ByteArray} {pc : Nat} (h : DkAt code pc [87]) : decode code pc = .ok (.pop, 1) := dk_of ((dk_bind (dk_u1 (h 0 _ rfl))).trans rfl)
theorem dk_89 {code : ByteArray} {pc : Nat} (h : DkAt code pc [89]) : decode code pc = .ok (.dup, 1) := dk_of ((dk_bind (dk_u1 (h 0 _ rfl))).trans rfl)
theorem dk_90 {code : ByteArray} {pc : Nat} (h : DkAt code pc [90]) : decode code pc = .ok (.dup_x1, 1) := dk_of ((dk_bind (dk_u1 (h 0 _ rfl))).trans rfl)
theorem dk_92 {code : ByteArray} {pc : Nat} (h : DkAt code pc [92]) : decode code pc = .ok (.dup2, 1) := dk_of ((dk_bind (dk_u1 (h 0 _ rfl))).trans rfl)
theorem dk_96 {code : ByteArray} {pc : Nat} (h : DkAt code pc [96]) : decode code pc = .ok (.iadd, 1) := dk_of ((dk_bind (dk_u1 (h 0 _ rfl))).trans rfl)
theorem dk_97 {code : ByteArray} {pc : Nat} (h : DkAt code pc [97]) : decode code pc = .ok (.ladd, 1) := dk_of ((dk_bind (dk_u1 (h 0 _ rfl))).trans rfl)
theorem dk_100 {code : ByteArray} {pc : Nat} (h : DkAt code pc [100]) : decode code pc = .ok (.isub, 1) := dk_of ((dk_bind (dk_u1 (h 0 _ rfl))).trans rfl)
theorem dk_101 {code : ByteArray} {pc : Nat} (h : DkAt code pc [101]) : decode code pc = .ok (.lsub, 1) := dk_of ((dk_bind (dk_u1 (h 0 _ rfl))).trans rfl)
theorem dk_104 {code : ByteArray} {pc : Nat} (h : DkAt code pc [104]) : decode code pc = .ok (.imul, 1) := dk_of ((dk_bind (dk_u1 (h 0 _ rfl))).trans rfl)
theorem dk_108 {code : ByteArray} {pc : Nat} (h : DkAt code pc [108]) : decode code pc = .ok (.idiv, 1) := dk_of ((dk_bind (dk_u1 (h 0 _ rfl))).trans rfl)
theorem dk_110 {code : ByteArray} {pc : Nat} (h : DkAt code pc [110]) : decode code pc = .ok (.fdiv, 1) := dk_of ((dk_bind (dk_u1 (h 0 _ rfl))).trans rfl)
theorem dk_111 {code : ByteArray} {pc : Nat} (h : DkAt code pc [111]) : decode code pc = .ok (.ddiv, 1) := dk_of ((dk_bind (dk_u1 (h 0 _ rfl))).trans rfl)
theorem dk_112 {code : ByteArray} {pc : Nat} (h : DkAt code pc [112]) : decode code pc = .ok (.irem, 1) := dk_of ((dk_bind (dk_u1 (h 0 _ rfl))).trans rfl)
theorem dk_116 {code : ByteArray} {pc : Nat} (h : DkAt code pc [116]) : decode code pc = .ok (.ineg, 1) := dk_of ((dk_bind (dk_u1 (h 0 _ rfl))).trans rfl)
theorem dk_120 {code : ByteArray} {pc : Nat} (h : DkAt code pc [120]) : decode code pc = .ok (.ishl, 1) := dk_of ((dk_bind (dk_u1 (h 0 _ rfl))).trans rfl)
theorem dk_121 {code : ByteArray} {pc : Nat} (h : DkAt code pc [121]) : decode code pc = .ok (.lshl, 1) := dk_of ((dk_bind (dk_u1 (h 0 _ rfl))).trans rfl)
theorem dk_122 {code : ByteArray} {pc : Nat} (h : DkAt code pc [122]) : decode code pc = .ok (.ishr, 1) := dk_of ((dk_bind (dk_u1 (h 0 _ rfl))).trans rfl)
theorem dk_123 {code : ByteArray} {pc : Nat} (h : DkAt code pc [123]) : decode code pc = .ok (.lshr, 1) := dk_of ((dk_bind (dk_u1 (h 0 _ rfl))).trans rfl)
theorem dk_124 {code : ByteArray} {pc : Nat} (h : DkAt code pc [124]) : decode code pc = .ok (.iushr, 1) := dk_of ((dk_bind (dk_u1 (h 0 _ rfl))).trans rfl)
theorem dk_125 {code : ByteArray} {pc : Nat} (h : DkAt code pc [125]) : decode code pc = .ok (.lushr, 1) := dk_of ((dk_bind (dk_u1 (h 0 _ rfl))).trans rfl)
theorem dk_126 {code : ByteArray} {pc : Nat} (h : DkAt code pc [126]) : decode code pc = .ok (.iand, 1) := dk_of ((dk_bind (dk_u1 (h 0 _ rfl))).trans rfl)
theorem dk_127 {code : ByteArray} {pc : Nat} (h : DkAt code pc [127]) : decode code pc = .ok (.land, 1) := dk_of ((dk_bind (dk_u1 (h 0 _ rfl))).trans rfl)
theorem dk_128 {code : ByteArray} {pc : Nat} (h : DkAt code pc [128]) : decode code pc = .ok (.ior, 1) := dk_of ((dk_bind (dk_u1 (h 0 _ rfl))).trans rfl)
theorem dk_129 {code : ByteArray} {pc : Nat} (h : DkAt code pc [129]) : decode code pc = .ok (.lor, 1) := dk_of ((dk_bind (dk_u1 (h 0 _ rfl))).trans rfl)
theorem dk_130 {code : ByteArray} {pc : Nat} (h : DkAt code pc [130]) : decode code pc = .ok (.ixor, 1) := dk_of ((dk_bind (dk_u1 (h 0 _ rfl))).trans rfl)
theorem dk_131 {code : ByteArray} {pc : Nat} (h : DkAt code pc [131]) : decode code pc = .ok (.lxor, 1) := dk_of ((dk_bind (dk_u1 (h 0 _ rfl))).trans rfl)
theorem dk_132 {code : ByteArray} {pc : Nat} (a b : UInt8) (h : DkAt code pc [132, a, b]) : decode code pc = .ok (.iinc a.toNat (Reader.signed 8 b.toNat), 3) := dk_of ((dk_bind (dk_u1 (h 0 _ rfl))).trans ((dk_bind (dk_u1 (h 1 _ rfl))).trans ((dk_bind (dk_map (dk_u1 (h 2 _ rfl)))).trans rfl)))
theorem dk_133 {code : ByteArray} {pc : Nat} (h : DkAt code pc [133]) : decode code pc = .ok (.i2l, 1) := dk_of ((dk_bind (dk_u1 (h 0 _ rfl))).trans rfl)
theorem dk_134 {code : ByteArray} {pc : Nat} (h : DkAt code pc [134]) : decode code pc = .ok (.i2f, 1) := dk_of ((dk_bind (dk_u1 (h 0 _ rfl))).trans rfl)
theorem dk_135 {code : ByteArray} {pc : Nat} (h : DkAt code pc [135]) : decode code pc = .ok (.i2d, 1) := dk_of ((dk_bind (dk_u1 (h 0 _ rfl))).trans rfl)
theorem dk_136 {code : ByteArray} {pc : Nat} (h : DkAt code pc [136]) : decode code pc = .ok (.l2i, 1) := dk_of ((dk_bind (dk_u1 (h 0 _ rfl))).trans rfl)
theorem dk_141 {code : ByteArray} {pc : Nat} (h : DkAt code pc [141]) : decode code pc = .ok (.f2d, 1) := dk_of ((dk_bind (dk_u1 (h 0 _ rfl))).trans rfl)
theorem dk_145 {code : ByteArray} {pc : Nat} (h : DkAt code pc [145]) : decode code pc = .ok (.i2b, 1) := dk_of ((dk_bind (dk_u1 (h 0 _ rfl))).trans rfl)
theorem dk_146 {code : ByteArray} {pc : Nat} (h : DkAt code pc [146]) : decode code pc = .ok (.i2c, 1) := dk_of ((dk_bind (dk_u1 (h 0 _ rfl))).trans rfl)
theorem dk_148 {code : ByteArray} {pc : Nat} (h : DkAt code pc [148]) : decode code pc = .ok (.lcmp, 1) := dk_of ((dk_bind (dk_u1 (h 0 _ rfl))).trans rfl)
theorem dk_149 {code : ByteArray} {pc : Nat} (h : DkAt code pc [149]) : decode code pc = .ok (.fcmp .l, 1) := dk_of ((dk_bind (dk_u1 (h 0 _ rfl))).trans rfl)
theorem dk_151 {code : ByteArray} {pc : Nat} (h : DkAt code pc [151]) : decode code pc = .ok (.dcmp .l, 1) := dk_of ((dk_bind (dk_u1 (h 0 _ rfl))).trans rfl)
theorem dk_153 {code : ByteArray} {pc : Nat} (a b : UInt8) (h : DkAt code pc [153, a, b]) : decode code pc = .ok (.ifCond .eq (Reader.signed 16 (a.toNat * 256 + b.toNat)), 3) := dk_of ((dk_bind (dk_u1 (h 0 _ rfl))).trans ((dk_bind (dk_map (dk_u2 (h 1 _ rfl) (h 2 _ rfl)))).trans rfl))
theorem dk_154 {code : ByteArray} {pc : Nat} (a b : UInt8) (h : DkAt code pc [154, a, b]) : decode code pc = .ok (.ifCond .ne (Reader.signed 16 (a.toNat * 256 + b.toNat)), 3) := dk_of ((dk_bind (dk_u1 (h 0 _ rfl))).trans ((dk_bind (dk_map (dk_u2 (h 1 _ rfl) (h 2 _ rfl)))).trans rfl))
theorem dk_155 {code : ByteArray} {pc : Nat} (a b : UInt8) (h : DkAt code pc [155, a, b]) : decode code pc = .ok (.ifCond .lt (Reader.signed 16 (a.toNat * 256 + b.toNat)), 3) := dk_of ((dk_bind (dk_u1 (h 0 _ rfl))).trans ((dk_bind (dk_map (dk_u2 (h 1 _ rfl) (h 2 _ rfl)))).trans rfl))
theorem dk_156 {code : ByteArray} {pc : Nat} (a b : UInt8) (h : DkAt code pc [156, a, b]) : decode code pc = .ok (.ifCond .ge (Reader.signed 16 (a.toNat * 256 + b.toNat)), 3) := dk_of ((dk_bind (dk_u1 (h 0 _ rfl))).trans ((dk_bind (dk_map (dk_u2 (h 1 _ rfl) (h 2 _ rfl)))).trans rfl))
theorem dk_157 {code : ByteArray} {pc : Nat} (a b : UInt8) (h : DkAt code pc [157, a, b]) : decode code pc = .ok (.ifCond .gt (Reader.signed 16 (a.toNat * 256 + b.toNat)), 3) := dk_of ((dk_bind (dk_u1 (h 0 _ rfl))).trans ((dk_bind (dk_map (dk_u2 (h 1 _ rfl) (h 2 _ rfl)))).trans rfl))
theorem dk_158 {code : ByteArray} {pc : Nat} (a b : UInt8) (h : DkAt code pc [158, a, b]) : decode code pc = .ok (.ifCond .le (Reader.signed 16 (a.toNat * 256 + b.toNat)), 3) := dk_of ((dk_bind (dk_u1 (h 0 _ rfl))).trans ((dk_bind (dk_map (dk_u2 (h 1 _ rfl) (h 2 _ rfl)))).trans rfl))
theorem dk_159 {code : ByteArray} {pc : Nat} (a b : UInt8) (h : DkAt code pc [159, a, b]) : decode code pc = .ok (.if_icmp .eq (Reader.signed 16 (a.toNat * 256 + b.toNat)), 3) := dk_of ((dk_bind (dk_u1 (h 0 _ rfl))).trans ((dk_bind (dk_map (dk_u2 (h 1 _ rfl) (h 2 _ rfl)))).trans rfl))
theorem dk_160 {code : ByteArray} {pc : Nat} (a b : UInt8) (h : DkAt code pc [160, a, b]) : decode code pc = .ok (.if_icmp .ne (Reader.signed 16 (a.toNat * 256 + b.toNat)), 3) := dk_of ((dk_bind (dk_u1 (h 0 _ rfl))).trans ((dk_bind (dk_map (dk_u2 (h 1 _ rfl) (h 2 _ rfl)))).trans rfl))
theorem dk_161 {code : ByteArray} {pc : Nat} (a b : UInt8) (h : DkAt code pc [161, a, b]) : decode code pc = .ok (.if_icmp .lt (Reader.signed 16 (a.toNat * 256 + b.toNat)), 3) := dk_of ((dk_bind (dk_u1 (h 0 _ rfl))).trans ((dk_bind (dk_map (dk_u2 (h 1 _ rfl) (h 2 _ rfl)))).trans rfl))
theorem dk_162 {code : ByteArray} {pc : Nat} (a b : UInt8) (h : DkAt code pc [162, a, b]) : decode code pc = .ok (.if_icmp .ge (Reader.signed 16 (a.toNat * 256 + b.toNat)), 3) := dk_of ((dk_bind (dk_u1 (h 0 _ rfl))).trans ((dk_bind (dk_map (dk_u2 (h 1 _ rfl) (h 2 _ rfl)))).trans rfl))
theorem dk_163 {code : ByteArray} {pc : Nat} (a b : UInt8) (h : DkAt code pc [163, a, b]) : decode code pc = .ok (.if_icmp .gt (Reader.signed 16 (a.toNat * 256 + b.toNat)), 3) := dk_of ((dk_bind (dk_u1 (h 0 _ rfl))).trans ((dk_bind (dk_map (dk_u2 (h 1 _ rfl) (h 2 _ rfl)))).trans rfl))
theorem dk_164 {code : ByteArray} {pc : Nat} (a b : UInt8) (h : DkAt code pc [164, a, b]) : decode code pc = .ok (.if_icmp .le (Reader.signed 16 (a.toNat * 256 + b.toNat)), 3) := dk_of ((dk_bind (dk_u1 (h 0 _ rfl))).trans ((dk_bind (dk_map (dk_u2 (h 1 _ rfl) (h 2 _ rfl)))).trans rfl))
theorem dk_165 {code : ByteArray} {pc : Nat} (a b : UInt8) (h : DkAt code pc [165, a, b]) : decode code pc = .ok (.if_acmp .eq (Reader.signed 16 (a.toNat * 256 + b.toNat)), 3) := dk_of ((dk_bind (dk_u1 (h 0 _ rfl))).trans ((dk_bind (dk_map (dk_u2 (h 1 _ rfl) (h 2 _ rfl)))).trans rfl))
theorem dk_166 {code : ByteArray} {pc : Nat} (a b : UInt8) (h : DkAt code pc [166, a, b]) : decode code pc = .ok (.if_acmp .ne (Reader.signed 16 (a.toNat * 256 + b.toNat)), 3) := dk_of ((dk_bind (dk_u1 (h 0 _ rfl))).trans ((dk_bind (dk_map (dk_u2 (h 1 _ rfl) (h 2 _ rfl)))).trans rfl))
theorem dk_167 {code : ByteArray} {pc : Nat} (a b : UInt8) (h : DkAt code pc [167, a, b]) : decode code pc = .ok (.goto (Reader.signed 16 (a.toNat * 256 + b.toNat)), 3) := dk_of ((dk_bind (dk_u1 (h 0 _ rfl))).trans ((dk_bind (dk_map (dk_u2 (h 1 _ rfl) (h 2 _ rfl)))).trans rfl))
theorem dk_172 {code : ByteArray} {pc : Nat} (h : DkAt code pc [172]) : decode code pc = .ok (.ireturn, 1) := dk_of ((dk_bind (dk_u1 (h 0 _ rfl))).trans rfl)
theorem dk_173 {code : ByteArray} {pc : Nat} (h : DkAt code pc [173]) : decode code pc = .ok (.lreturn, 1) := dk_of ((dk_bind (dk_u1 (h 0 _ rfl))).trans rfl)
theorem dk_174 {code : ByteArray} {pc : Nat} (h : DkAt code pc [174]) : decode code pc = .ok (.freturn, 1) := dk_of ((dk_bind (dk_u1 (h 0 _ rfl))).trans rfl)
theorem dk_175 {code : ByteArray} {pc : Nat} (h : DkAt code pc [175]) : decode code pc = .ok (.dreturn, 1) := dk_of ((dk_bind (dk_u1 (h 0 _ rfl))).trans rfl)
theorem dk_176 {code : ByteArray} {pc : Nat} (h : DkAt code pc [176]) : decode code pc = .ok (.areturn, 1) := dk_of ((dk_bind (dk_u1 (h 0 _ rfl))).trans rfl)
theorem dk_177 {code : ByteArray} {pc : Nat} (h : DkAt code pc [177]) : decode code pc = .ok (.return_, 1) := dk_of ((dk_bind (dk_u1 (h 0 _ rfl))).trans rfl)
theorem dk_178 {code : ByteArray} {pc : Nat} (a b : UInt8) (h : DkAt code pc [178, a, b]) : decode code pc = .ok (.getstatic (a.toNat * 256 + b.toNat), 3) := dk_of ((dk_bind (dk_u1 (h 0 _ rfl))).trans ((dk_bind (dk_u2 (h 1 _ rfl) (h 2 _ rfl))).trans rfl))
theorem dk_180 {code : ByteArray} {pc : Nat} (a b : UInt8) (h : DkAt code pc [180, a, b]) : decode code pc = .ok (.getfield (a.toNat * 256 + b.toNat), 3) := dk_of ((dk_bind (dk_u1 (h 0 _ rfl))).trans ((dk_bind (dk_u2 (h 1 _ rfl) (h 2 _ rfl))).trans rfl))
theorem dk_181 {code : ByteArray} {pc : Nat} (a b : UInt8) (h : DkAt code pc [181, a, b]) : decode code pc = .ok (.putfield (a.toNat * 256 + b.toNat), 3) := dk_of ((dk_bind (dk_u1 (h 0 _ rfl))).trans ((dk_bind (dk_u2 (h 1 _ rfl) (h 2 _ rfl))).trans rfl))
theorem dk_182 {code : ByteArray} {pc : Nat} (a b : UInt8) (h : DkAt code pc [182, a, b]) : decode code pc = .ok (.invokevirtual (a.toNat * 256 + b.toNat), 3) := dk_of ((dk_bind (dk_u1 (h 0 _ rfl))).trans ((dk_bind (dk_u2 (h 1 _ rfl) (h 2 _ rfl))).trans rfl))
theorem dk_183 {code : ByteArray} {pc : Nat} (a b : UInt8) (h : DkAt code pc [183, a, b]) : decode code pc = .ok (.invokespecial (a.toNat * 256 + b.toNat), 3) := dk_of ((dk_bind (dk_u1 (h 0 _ rfl))).trans ((dk_bind (dk_u2 (h 1 _ rfl) (h 2 _ rfl))).trans rfl))
theorem dk_184 {code : ByteArray} {pc : Nat} (a b : UInt8) (h : DkAt code pc [184, a, b]) : decode code pc = .ok (.invokestatic (a.toNat * 256 + b.toNat), 3) := dk_of ((dk_bind (dk_u1 (h 0 _ rfl))).trans ((dk_bind (dk_u2 (h 1 _ rfl) (h 2 _ rfl))).trans rfl))
theorem dk_187 {code : ByteArray} {pc : Nat} (a b : UInt8) (h : DkAt code pc [187, a, b]) : decode code pc = .ok (.new (a.toNat * 256 + b.toNat), 3) := dk_of ((dk_bind (dk_u1 (h 0 _ rfl))).trans ((dk_bind (dk_u2 (h 1 _ rfl) (h 2 _ rfl))).trans rfl))
theorem dk_188_4 {code : ByteArray} {pc : Nat} (h : DkAt code pc [188, 4]) : decode code pc = .ok (.newarray .boolean, 2) := dk_of ((dk_bind (dk_u1 (h 0 _ rfl))).trans ((dk_bind (dk_u1 (h 1 _ rfl))).trans rfl))
theorem dk_188_5 {code : ByteArray} {pc : Nat} (h : DkAt code pc [188, 5]) : decode code pc = .ok (.newarray .char, 2) := dk_of ((dk_bind (dk_u1 (h 0 _ rfl))).trans ((dk_bind (dk_u1 (h 1 _ rfl))).trans rfl))
theorem dk_188_7 {code : ByteArray} {pc : Nat} (h : DkAt code pc [188, 7]) : decode code pc = .ok (.newarray .double, 2) := dk_of ((dk_bind (dk_u1 (h 0 _ rfl))).trans ((dk_bind (dk_u1 (h 1 _ rfl))).trans rfl))
theorem dk_188_8 {code : ByteArray} {pc : Nat} (h : DkAt code pc [188, 8]) : decode code pc = .ok (.newarray .byte, 2) := dk_of ((dk_bind (dk_u1 (h 0 _ rfl))).trans ((dk_bind (dk_u1 (h 1 _ rfl))).trans rfl))
theorem dk_188_10 {code : ByteArray} {pc : Nat} (h : DkAt code pc [188, 10]) : decode code pc = .ok (.newarray .int, 2) := dk_of ((dk_bind (dk_u1 (h 0 _ rfl))).trans ((dk_bind (dk_u1 (h 1 _ rfl))).trans rfl))
theorem dk_188_11 {code : ByteArray} {pc : Nat} (h : DkAt code pc [188, 11]) : decode code pc = .ok (.newarray .long, 2) := dk_of ((dk_bind (dk_u1 (h 0 _ rfl))).trans ((dk_bind (dk_u1 (h 1 _ rfl))).trans rfl))
theorem dk_189 {code : ByteArray} {pc : Nat} (a b : UInt8) (h : DkAt code pc [189, a, b]) : decode code pc = .ok (.anewarray (a.toNat * 256 + b.toNat), 3) := dk_of ((dk_bind (dk_u1 (h 0 _ rfl))).trans ((dk_bind (dk_u2 (h 1 _ rfl) (h 2 _ rfl))).trans rfl))
theorem dk_190 {code : ByteArray} {pc : Nat} (h : DkAt code pc [190]) : decode code pc = .ok (.arraylength, 1) := dk_of ((dk_bind (dk_u1 (h 0 _ rfl))).trans rfl)
theorem dk_191 {code : ByteArray} {pc : Nat} (h : DkAt code pc [191]) : decode code pc = .ok (.athrow, 1) := dk_of ((dk_bind (dk_u1 (h 0 _ rfl))).trans rfl)
theorem dk_192 {code : ByteArray} {pc : Nat} (a b : UInt8) (h : DkAt code pc [192, a, b]) : decode code pc = .ok (.checkcast (a.toNat * 256 + b.toNat), 3) := dk_of ((dk_bind (dk_u1 (h 0 _ rfl))).trans ((dk_bind (dk_u2 (h 1 _ rfl) (h 2 _ rfl))).trans rfl))
theorem dk_193 {code : ByteArray} {pc : Nat} (a b : UInt8) (h : DkAt code pc [193, a, b]) : decode code pc = .ok (.instanceof (a.toNat * 256 + b.toNat), 3) := dk_of ((dk_bind (dk_u1 (h 0 _ rfl))).trans ((dk_bind (dk_u2 (h 1 _ rfl) (h 2 _ rfl))).trans rfl))
theorem dk_198 {code : ByteArray} {pc : Nat} (a b : UInt8) (h : DkAt code pc [198, a, b]) : decode code pc = .ok (.ifnull (Reader.signed 16 (a.toNat * 256 + b.toNat)), 3) := dk_of ((dk_bind (dk_u1 (h 0 _ rfl))).trans ((dk_bind (dk_map (dk_u2 (h 1 _ rfl) (h 2 _ rfl)))).trans rfl))
theorem dk_199 {code : ByteArray} {pc : Nat} (a b : UInt8) (h : DkAt code pc [199, a, b]) : decode code pc = .ok (.ifnonnull (Reader.signed 16 (a.toNat * 256 + b.toNat)), 3) := dk_of ((dk_bind (dk_u1 (h 0 _ rfl))).trans ((dk_bind (dk_map (dk_u2 (h 1 _ rfl) (h 2 _ rfl)))).trans rfl))

/-! java/util/AbstractMap -/
set_option maxRecDepth 100000
def RJ0 : String := "java/util/AbstractMap"
abbrev cJ0_init : ByteArray := prog_53_method_1_code
def yJ0_init : MethodName := ⟨RJ0, "<init>", "()V"⟩
theorem dJ0_init_0 : decode cJ0_init 0 = .ok (.aload_n 0, 1) := by decide +kernel
theorem dJ0_init_1 : decode cJ0_init 1 = .ok (.invokespecial 1, 3) := by decide +kernel
theorem dJ0_init_4 : decode cJ0_init 4 = .ok (.return_, 1) := by decide +kernel
theorem q125 : (Jvm.Cond.initialized "java/util/AbstractMap") ∈ lw_all := lw_g (lw_at lw_m1 3 rfl) rfl
theorem q210 : (Jvm.Cond.instanceMethod ({ cls := "java/util/AbstractMap", name := "<init>", desc := "()V" } : Jvm.MethodName)) ∈ lw_all := lw_g (lw_at lw_m1 88 rfl) rfl
theorem q211 : (Jvm.Cond.code ({ cls := "java/util/AbstractMap", name := "<init>", desc := "()V" } : Jvm.MethodName) prog_53_method_1_code (1 : Nat) (Option.none : Option Jvm.ClassFile.FieldType)) ∈ lw_all := lw_g (lw_at lw_m1 89 rfl) rfl
theorem q212 : (Jvm.Cond.methodLink "java/util/AbstractMap" (1 : Nat) ({ cls := "java/lang/Object", name := "<init>", desc := "()V" } : Jvm.MethodName)) ∈ lw_all := lw_g (lw_at lw_m1 90 rfl) rfl
theorem q235 : (Jvm.Cond.soleField "java/util/AbstractMap" "keySet") ∈ lw_all := lw_g (lw_at lw_m1 113 rfl) rfl
theorem q237 : (Jvm.Cond.soleField "java/util/AbstractMap" "values") ∈ lw_all := lw_g (lw_at lw_m1 115 rfl) rfl
theorem q1089 : (Jvm.Cond.instanceMethod ({ cls := "java/util/AbstractMap", name := "putAll", desc := "(Ljava/util/Map;)V" } : Jvm.MethodName)) ∈ lw_all := lw_g (lw_at lw_m5 7 rfl) rfl
theorem q1090 : (Jvm.Cond.code ({ cls := "java/util/AbstractMap", name := "putAll", desc := "(Ljava/util/Map;)V" } : Jvm.MethodName) prog_53_method_9_code (4 : Nat) (Option.none : Option Jvm.ClassFile.FieldType)) ∈ lw_all := lw_g (lw_at lw_m5 8 rfl) rfl
theorem q1091 : (Jvm.Cond.interfaceEntry "java/util/AbstractMap" (52 : Nat)) ∈ lw_tbl := lw_at lw_m5 9 rfl
theorem q1092 : (Jvm.Cond.methodLink "java/util/AbstractMap" (52 : Nat) ({ cls := "java/util/Map", name := "entrySet", desc := "()Ljava/util/Set;" } : Jvm.MethodName)) ∈ lw_all := lw_g (lw_at lw_m5 10 rfl) rfl
theorem q1093 : (Jvm.Cond.interfaceEntry "java/util/AbstractMap" (20 : Nat)) ∈ lw_tbl := lw_at lw_m5 11 rfl
theorem q1094 : (Jvm.Cond.methodLink "java/util/AbstractMap" (20 : Nat) ({ cls := "java/util/Set", name := "iterator", desc := "()Ljava/util/Iterator;" } : Jvm.MethodName)) ∈ lw_all := lw_g (lw_at lw_m5 12 rfl) rfl
theorem q1095 : (Jvm.Cond.interfaceEntry "java/util/AbstractMap" (24 : Nat)) ∈ lw_tbl := lw_at lw_m5 13 rfl
theorem q1096 : (Jvm.Cond.methodLink "java/util/AbstractMap" (24 : Nat) ({ cls := "java/util/Iterator", name := "hasNext", desc := "()Z" } : Jvm.MethodName)) ∈ lw_all := lw_g (lw_at lw_m5 14 rfl) rfl
theorem q1120 : (Jvm.Cond.interfaceEntry "java/util/AbstractMap" (30 : Nat)) ∈ lw_tbl := lw_at lw_m5 38 rfl
theorem q1121 : (Jvm.Cond.methodLink "java/util/AbstractMap" (30 : Nat) ({ cls := "java/util/Iterator", name := "next", desc := "()Ljava/lang/Object;" } : Jvm.MethodName)) ∈ lw_all := lw_g (lw_at lw_m5 39 rfl) rfl
theorem q1122 : (Jvm.Cond.classLink "java/util/AbstractMap" (34 : Nat) "java/util/Map$Entry") ∈ lw_all := lw_g (lw_at lw_m5 40 rfl) rfl
theorem q1123 : (Jvm.Cond.interfaceEntry "java/util/AbstractMap" (43 : Nat)) ∈ lw_tbl := lw_at lw_m5 41 rfl
theorem q1124 : (Jvm.Cond.methodLink "java/util/AbstractMap" (43 : Nat) ({ cls := "java/util/Map$Entry", name := "getKey", desc := "()Ljava/lang/Object;" } : Jvm.MethodName)) ∈ lw_all := lw_g (lw_at lw_m5 42 rfl) rfl
theorem q1125 : (Jvm.Cond.interfaceEntry "java/util/AbstractMap" (36 : Nat)) ∈ lw_tbl := lw_at lw_m5 43 rfl
theorem q1126 : (Jvm.Cond.methodLink "java/util/AbstractMap" (36 : Nat) ({ cls := "java/util/Map$Entry", name := "getValue", desc := "()Ljava/lang/Object;" } : Jvm.MethodName)) ∈ lw_all := lw_g (lw_at lw_m5 44 rfl) rfl
theorem q1127 : (Jvm.Cond.methodLink "java/util/AbstractMap" (55 : Nat) ({ cls := "java/util/AbstractMap", name := "put", desc := "(Ljava/lang/Object;Ljava/lang/Object;)Ljava/lang/Object;" } : Jvm.MethodName)) ∈ lw_all := lw_g (lw_at lw_m5 45 rfl) rfl
theorem q1128 : (Jvm.Cond.instanceMethod ({ cls := "java/util/AbstractMap", name := "put", desc := "(Ljava/lang/Object;Ljava/lang/Object;)Ljava/lang/Object;" } : Jvm.MethodName)) ∈ lw_all := lw_g (lw_at lw_m5 46 rfl) rfl
theorem q1129 : (Jvm.Cond.sameMethod "java/util/AbstractMap" "java/util/AbstractMap" "put" "(Ljava/lang/Object;Ljava/lang/Object;)Ljava/lang/Object;") ∈ lw_all := lw_g (lw_at lw_m5 47 rfl) rfl
theorem q1131 : (Jvm.Cond.declares ({ cls := "java/util/AbstractMap", name := "put", desc := "(Ljava/lang/Object;Ljava/lang/Object;)Ljava/lang/Object;" } : Jvm.MethodName)) ∈ lw_tbl := lw_at lw_m5 49 rfl
theorem q3445 : (Jvm.Cond.sameMethod "java/util/AbstractMap" "java/util/AbstractMap" "putAll" "(Ljava/util/Map;)V") ∈ lw_all := lw_g (lw_at lw_m14 203 rfl) rfl

/-! java/util/TreeMap -/
set_option maxRecDepth 100000
def RJ1 : String := "java/util/TreeMap"
def TJ1 : u_T := fun k => match k with
  | 0 => ("java/util/AbstractMap", "keySet", "Ljava/util/Set;", false)
  | 1 => ("java/util/AbstractMap", "values", "Ljava/util/Collection;", false)
  | 2 => ("java/util/TreeMap", "comparator", "Ljava/util/Comparator;", true)
  | 3 => ("java/util/TreeMap", "root", "Ljava/util/TreeMap$Entry;", false)
  | 4 => ("java/util/TreeMap", "size", "I", false)
  | 5 => ("java/util/TreeMap", "modCount", "I", false)
  | 6 => ("java/util/TreeMap", "entrySet", "Ljava/util/TreeMap$EntrySet;", false)
  | 7 => ("java/util/TreeMap", "navigableKeySet", "Ljava/util/TreeMap$KeySet;", false)
  | _ => ("java/util/TreeMap", "descendingMap", "Ljava/util/NavigableMap;", false)
def tyJ1 : Nat → FieldType := fun k => match k with
  | 0 => .object "java/util/Set"
  | 1 => .object "java/util/Collection"
  | 2 => .object "java/util/Comparator"
  | 3 => .object "java/util/TreeMap$Entry"
  | 4 => .int
  | 5 => .int
  | 6 => .object "java/util/TreeMap$EntrySet"
  | 7 => .object "java/util/TreeMap$KeySet"
  | _ => .object "java/util/NavigableMap"
abbrev wsJ10 : List Cond := u_ws RJ1 TJ1 9
theorem nmJ1 : ∀ a, a < 9 → ∀ b, b < 9 → a ≠ b → (TJ1 a).2.1 ≠ (TJ1 b).2.1 := by decide +kernel
theorem tyJ1_ok : ∀ k, k < 9 → parseFieldDescriptor (TJ1 k).2.2.1 = some (tyJ1 k) := by decide +kernel
abbrev cJ1_init : ByteArray := prog_81_method_1_code
def yJ1_init : MethodName := ⟨RJ1, "<init>", "()V"⟩
def dkwJ1_init_0 : List UInt8 := [42, 183, 0, 1, 42, 3, 181, 0, 7, 42, 3, 181, 0, 13, 42, 1, 181, 0, 16, 177]
abbrev dktJ1_init_0 : List UInt8 := dkwJ1_init_0 ++ []
theorem dksJ1_init_0 : cJ1_init.data.toList.drop 0 = dktJ1_init_0 := by decide +kernel
theorem dJ1_init_0 : decode cJ1_init 0 = .ok (.aload_n 0, 1) := dk_42 (dk_at dksJ1_init_0 0 rfl rfl)
theorem dJ1_init_1 : decode cJ1_init 1 = .ok (.invokespecial 1, 3) := dk_183 0 1 (dk_at dksJ1_init_0 1 rfl rfl)
theorem dJ1_init_4 : decode cJ1_init 4 = .ok (.aload_n 0, 1) := dk_42 (dk_at dksJ1_init_0 4 rfl rfl)
theorem dJ1_init_5 : decode cJ1_init 5 = .ok (.iconst 0, 1) := dk_3 (dk_at dksJ1_init_0 5 rfl rfl)
theorem dJ1_init_6 : decode cJ1_init 6 = .ok (.putfield 7, 3) := dk_181 0 7 (dk_at dksJ1_init_0 6 rfl rfl)
theorem dJ1_init_9 : decode cJ1_init 9 = .ok (.aload_n 0, 1) := dk_42 (dk_at dksJ1_init_0 9 rfl rfl)
theorem dJ1_init_10 : decode cJ1_init 10 = .ok (.iconst 0, 1) := dk_3 (dk_at dksJ1_init_0 10 rfl rfl)
theorem dJ1_init_11 : decode cJ1_init 11 = .ok (.putfield 13, 3) := dk_181 0 13 (dk_at dksJ1_init_0 11 rfl rfl)
theorem dJ1_init_14 : decode cJ1_init 14 = .ok (.aload_n 0, 1) := dk_42 (dk_at dksJ1_init_0 14 rfl rfl)
theorem dJ1_init_15 : decode cJ1_init 15 = .ok (.aconst_null, 1) := dk_1 (dk_at dksJ1_init_0 15 rfl rfl)
theorem dJ1_init_16 : decode cJ1_init 16 = .ok (.putfield 16, 3) := dk_181 0 16 (dk_at dksJ1_init_0 16 rfl rfl)
theorem dJ1_init_19 : decode cJ1_init 19 = .ok (.return_, 1) := dk_177 (dk_at dksJ1_init_0 19 rfl rfl)
abbrev cJ1_put : ByteArray := prog_81_method_21_code
def yJ1_put : MethodName := ⟨RJ1, "put", "(Ljava/lang/Object;Ljava/lang/Object;)Ljava/lang/Object;"⟩
def dkwJ1_put_0 : List UInt8 := [42, 43, 44, 4, 182, 0, 127, 176]
abbrev dktJ1_put_0 : List UInt8 := dkwJ1_put_0 ++ []
theorem dksJ1_put_0 : cJ1_put.data.toList.drop 0 = dktJ1_put_0 := by decide +kernel
theorem dJ1_put_0 : decode cJ1_put 0 = .ok (.aload_n 0, 1) := dk_42 (dk_at dksJ1_put_0 0 rfl rfl)
theorem dJ1_put_1 : decode cJ1_put 1 = .ok (.aload_n 1, 1) := dk_43 (dk_at dksJ1_put_0 1 rfl rfl)
theorem dJ1_put_2 : decode cJ1_put 2 = .ok (.aload_n 2, 1) := dk_44 (dk_at dksJ1_put_0 2 rfl rfl)
theorem dJ1_put_3 : decode cJ1_put 3 = .ok (.iconst 1, 1) := dk_4 (dk_at dksJ1_put_0 3 rfl rfl)
theorem dJ1_put_4 : decode cJ1_put 4 = .ok (.invokevirtual 127, 3) := dk_182 0 127 (dk_at dksJ1_put_0 4 rfl rfl)
theorem dJ1_put_7 : decode cJ1_put 7 = .ok (.areturn, 1) := dk_176 (dk_at dksJ1_put_0 7 rfl rfl)
abbrev cJ1_put_2 : ByteArray := prog_81_method_31_code
def yJ1_put_2 : MethodName := ⟨RJ1, "put", "(Ljava/lang/Object;Ljava/lang/Object;Z)Ljava/lang/Object;"⟩
def dkwJ1_put_2_9 : List UInt8 := [4, 167, 0, 4, 3, 182, 0, 139, 1, 176]
abbrev dktJ1_put_2_9 : List UInt8 := dkwJ1_put_2_9 ++ []
def dkwJ1_put_2_8 : List UInt8 := [25, 4, 44, 181, 0, 58, 25, 9, 176, 25, 4, 199, 255, 181, 42, 43, 44, 25, 6, 21, 5, 156, 0, 7]
abbrev dktJ1_put_2_8 : List UInt8 := dkwJ1_put_2_8 ++ dktJ1_put_2_9
def dkwJ1_put_2_7 : List UInt8 := [180, 0, 114, 58, 4, 167, 0, 28, 25, 4, 180, 0, 58, 58, 9, 29, 154, 0, 8, 25, 9, 199, 0, 9]
abbrev dktJ1_put_2_7 : List UInt8 := dkwJ1_put_2_7 ++ dktJ1_put_2_8
def dkwJ1_put_2_6 : List UInt8 := [21, 5, 156, 0, 13, 25, 4, 180, 0, 111, 58, 4, 167, 0, 43, 21, 5, 158, 0, 13, 25, 4]
abbrev dktJ1_put_2_6 : List UInt8 := dkwJ1_put_2_6 ++ dktJ1_put_2_7
def dkwJ1_put_2_5 : List UInt8 := [192, 0, 99, 58, 8, 25, 4, 58, 6, 25, 8, 25, 4, 180, 0, 105, 185, 0, 107, 2, 0, 54, 5]
abbrev dktJ1_put_2_5 : List UInt8 := dkwJ1_put_2_5 ++ dktJ1_put_2_6
def dkwJ1_put_2_4 : List UInt8 := [25, 4, 44, 181, 0, 58, 25, 8, 176, 25, 4, 199, 255, 180, 167, 0, 92, 43, 184, 0, 95, 87, 43]
abbrev dktJ1_put_2_4 : List UInt8 := dkwJ1_put_2_4 ++ dktJ1_put_2_5
def dkwJ1_put_2_3 : List UInt8 := [180, 0, 114, 58, 4, 167, 0, 28, 25, 4, 180, 0, 58, 58, 8, 29, 154, 0, 8, 25, 8, 199, 0, 9]
abbrev dktJ1_put_2_3 : List UInt8 := dkwJ1_put_2_3 ++ dktJ1_put_2_4
def dkwJ1_put_2_2 : List UInt8 := [54, 5, 21, 5, 156, 0, 13, 25, 4, 180, 0, 111, 58, 4, 167, 0, 43, 21, 5, 158, 0, 13, 25, 4]
abbrev dktJ1_put_2_2 : List UInt8 := dkwJ1_put_2_2 ++ dktJ1_put_2_3
def dkwJ1_put_2_1 : List UInt8 := [58, 7, 25, 7, 198, 0, 85, 25, 4, 58, 6, 25, 7, 43, 25, 4, 180, 0, 105, 185, 0, 117, 3, 0]
abbrev dktJ1_put_2_1 : List UInt8 := dkwJ1_put_2_1 ++ dktJ1_put_2_2
def dkwJ1_put_2_0 : List UInt8 := [42, 180, 0, 101, 58, 4, 25, 4, 199, 0, 11, 42, 43, 44, 182, 0, 135, 1, 176, 42, 180, 0, 16]
abbrev dktJ1_put_2_0 : List UInt8 := dkwJ1_put_2_0 ++ dktJ1_put_2_1
theorem dksJ1_put_2_0 : cJ1_put_2.data.toList.drop 0 = dktJ1_put_2_0 := by decide +kernel
theorem dksJ1_put_2_1 : cJ1_put_2.data.toList.drop 23 = dktJ1_put_2_1 := dk_seg dksJ1_put_2_0 23 rfl rfl
theorem dksJ1_put_2_2 : cJ1_put_2.data.toList.drop 47 = dktJ1_put_2_2 := dk_seg dksJ1_put_2_1 24 rfl rfl
theorem dksJ1_put_2_3 : cJ1_put_2.data.toList.drop 71 = dktJ1_put_2_3 := dk_seg dksJ1_put_2_2 24 rfl rfl
theorem dksJ1_put_2_4 : cJ1_put_2.data.toList.drop 95 = dktJ1_put_2_4 := dk_seg dksJ1_put_2_3 24 rfl rfl
theorem dksJ1_put_2_5 : cJ1_put_2.data.toList.drop 118 = dktJ1_put_2_5 := dk_seg dksJ1_put_2_4 23 rfl rfl
theorem dksJ1_put_2_6 : cJ1_put_2.data.toList.drop 141 = dktJ1_put_2_6 := dk_seg dksJ1_put_2_5 23 rfl rfl
theorem dksJ1_put_2_7 : cJ1_put_2.data.toList.drop 163 = dktJ1_put_2_7 := dk_seg dksJ1_put_2_6 22 rfl rfl
theorem dksJ1_put_2_8 : cJ1_put_2.data.toList.drop 187 = dktJ1_put_2_8 := dk_seg dksJ1_put_2_7 24 rfl rfl
theorem dksJ1_put_2_9 : cJ1_put_2.data.toList.drop 211 = dktJ1_put_2_9 := dk_seg dksJ1_put_2_8 24 rfl rfl
theorem dJ1_put_2_0 : decode cJ1_put_2 0 = .ok (.aload_n 0, 1) := dk_42 (dk_at dksJ1_put_2_0 0 rfl rfl)
theorem dJ1_put_2_1 : decode cJ1_put_2 1 = .ok (.getfield 101, 3) := dk_180 0 101 (dk_at dksJ1_put_2_0 1 rfl rfl)
theorem dJ1_put_2_4 : decode cJ1_put_2 4 = .ok (.astore 4, 2) := dk_58 4 (dk_at dksJ1_put_2_0 4 rfl rfl)
theorem dJ1_put_2_6 : decode cJ1_put_2 6 = .ok (.aload 4, 2) := dk_25 4 (dk_at dksJ1_put_2_0 6 rfl rfl)
theorem dJ1_put_2_8 : decode cJ1_put_2 8 = .ok (.ifnonnull 11, 3) := dk_199 0 11 (dk_at dksJ1_put_2_0 8 rfl rfl)
theorem dJ1_put_2_11 : decode cJ1_put_2 11 = .ok (.aload_n 0, 1) := dk_42 (dk_at dksJ1_put_2_0 11 rfl rfl)
theorem dJ1_put_2_12 : decode cJ1_put_2 12 = .ok (.aload_n 1, 1) := dk_43 (dk_at dksJ1_put_2_0 12 rfl rfl)
theorem dJ1_put_2_13 : decode cJ1_put_2 13 = .ok (.aload_n 2, 1) := dk_44 (dk_at dksJ1_put_2_0 13 rfl rfl)
theorem dJ1_put_2_14 : decode cJ1_put_2 14 = .ok (.invokevirtual 135, 3) := dk_182 0 135 (dk_at dksJ1_put_2_0 14 rfl rfl)
theorem dJ1_put_2_17 : decode cJ1_put_2 17 = .ok (.aconst_null, 1) := dk_1 (dk_at dksJ1_put_2_0 17 rfl rfl)
theorem dJ1_put_2_18 : decode cJ1_put_2 18 = .ok (.areturn, 1) := dk_176 (dk_at dksJ1_put_2_0 18 rfl rfl)
theorem dJ1_put_2_19 : decode cJ1_put_2 19 = .ok (.aload_n 0, 1) := dk_42 (dk_at dksJ1_put_2_0 19 rfl rfl)
theorem dJ1_put_2_20 : decode cJ1_put_2 20 = .ok (.getfield 16, 3) := dk_180 0 16 (dk_at dksJ1_put_2_0 20 rfl rfl)
theorem dJ1_put_2_23 : decode cJ1_put_2 23 = .ok (.astore 7, 2) := dk_58 7 (dk_at dksJ1_put_2_1 0 rfl rfl)
theorem dJ1_put_2_25 : decode cJ1_put_2 25 = .ok (.aload 7, 2) := dk_25 7 (dk_at dksJ1_put_2_1 2 rfl rfl)
theorem dJ1_put_2_27 : decode cJ1_put_2 27 = .ok (.ifnull 85, 3) := dk_198 0 85 (dk_at dksJ1_put_2_1 4 rfl rfl)
theorem dJ1_put_2_30 : decode cJ1_put_2 30 = .ok (.aload 4, 2) := dk_25 4 (dk_at dksJ1_put_2_1 7 rfl rfl)
theorem dJ1_put_2_32 : decode cJ1_put_2 32 = .ok (.astore 6, 2) := dk_58 6 (dk_at dksJ1_put_2_1 9 rfl rfl)
theorem dJ1_put_2_34 : decode cJ1_put_2 34 = .ok (.aload 7, 2) := dk_25 7 (dk_at dksJ1_put_2_1 11 rfl rfl)
theorem dJ1_put_2_36 : decode cJ1_put_2 36 = .ok (.aload_n 1, 1) := dk_43 (dk_at dksJ1_put_2_1 13 rfl rfl)
theorem dJ1_put_2_37 : decode cJ1_put_2 37 = .ok (.aload 4, 2) := dk_25 4 (dk_at dksJ1_put_2_1 14 rfl rfl)
theorem dJ1_put_2_39 : decode cJ1_put_2 39 = .ok (.getfield 105, 3) := dk_180 0 105 (dk_at dksJ1_put_2_1 16 rfl rfl)
theorem dJ1_put_2_42 : decode cJ1_put_2 42 = .ok (.invokeinterface 117 3, 5) := by decide +kernel
theorem dJ1_put_2_47 : decode cJ1_put_2 47 = .ok (.istore 5, 2) := dk_54 5 (dk_at dksJ1_put_2_2 0 rfl rfl)
theorem dJ1_put_2_49 : decode cJ1_put_2 49 = .ok (.iload 5, 2) := dk_21 5 (dk_at dksJ1_put_2_2 2 rfl rfl)
theorem dJ1_put_2_51 : decode cJ1_put_2 51 = .ok (.ifCond .ge 13, 3) := dk_156 0 13 (dk_at dksJ1_put_2_2 4 rfl rfl)
theorem dJ1_put_2_54 : decode cJ1_put_2 54 = .ok (.aload 4, 2) := dk_25 4 (dk_at dksJ1_put_2_2 7 rfl rfl)
theorem dJ1_put_2_56 : decode cJ1_put_2 56 = .ok (.getfield 111, 3) := dk_180 0 111 (dk_at dksJ1_put_2_2 9 rfl rfl)
theorem dJ1_put_2_59 : decode cJ1_put_2 59 = .ok (.astore 4, 2) := dk_58 4 (dk_at dksJ1_put_2_2 12 rfl rfl)
theorem dJ1_put_2_61 : decode cJ1_put_2 61 = .ok (.goto 43, 3) := dk_167 0 43 (dk_at dksJ1_put_2_2 14 rfl rfl)
theorem dJ1_put_2_64 : decode cJ1_put_2 64 = .ok (.iload 5, 2) := dk_21 5 (dk_at dksJ1_put_2_2 17 rfl rfl)
theorem dJ1_put_2_66 : decode cJ1_put_2 66 = .ok (.ifCond .le 13, 3) := dk_158 0 13 (dk_at dksJ1_put_2_2 19 rfl rfl)
theorem dJ1_put_2_69 : decode cJ1_put_2 69 = .ok (.aload 4, 2) := dk_25 4 (dk_at dksJ1_put_2_2 22 rfl rfl)
theorem dJ1_put_2_71 : decode cJ1_put_2 71 = .ok (.getfield 114, 3) := dk_180 0 114 (dk_at dksJ1_put_2_3 0 rfl rfl)
theorem dJ1_put_2_74 : decode cJ1_put_2 74 = .ok (.astore 4, 2) := dk_58 4 (dk_at dksJ1_put_2_3 3 rfl rfl)
theorem dJ1_put_2_76 : decode cJ1_put_2 76 = .ok (.goto 28, 3) := dk_167 0 28 (dk_at dksJ1_put_2_3 5 rfl rfl)
theorem dJ1_put_2_79 : decode cJ1_put_2 79 = .ok (.aload 4, 2) := dk_25 4 (dk_at dksJ1_put_2_3 8 rfl rfl)
theorem dJ1_put_2_81 : decode cJ1_put_2 81 = .ok (.getfield 58, 3) := dk_180 0 58 (dk_at dksJ1_put_2_3 10 rfl rfl)
theorem dJ1_put_2_84 : decode cJ1_put_2 84 = .ok (.astore 8, 2) := dk_58 8 (dk_at dksJ1_put_2_3 13 rfl rfl)
theorem dJ1_put_2_86 : decode cJ1_put_2 86 = .ok (.iload_n 3, 1) := dk_29 (dk_at dksJ1_put_2_3 15 rfl rfl)
theorem dJ1_put_2_87 : decode cJ1_put_2 87 = .ok (.ifCond .ne 8, 3) := dk_154 0 8 (dk_at dksJ1_put_2_3 16 rfl rfl)
theorem dJ1_put_2_90 : decode cJ1_put_2 90 = .ok (.aload 8, 2) := dk_25 8 (dk_at dksJ1_put_2_3 19 rfl rfl)
theorem dJ1_put_2_92 : decode cJ1_put_2 92 = .ok (.ifnonnull 9, 3) := dk_199 0 9 (dk_at dksJ1_put_2_3 21 rfl rfl)
theorem dJ1_put_2_95 : decode cJ1_put_2 95 = .ok (.aload 4, 2) := dk_25 4 (dk_at dksJ1_put_2_4 0 rfl rfl)
theorem dJ1_put_2_97 : decode cJ1_put_2 97 = .ok (.aload_n 2, 1) := dk_44 (dk_at dksJ1_put_2_4 2 rfl rfl)
theorem dJ1_put_2_98 : decode cJ1_put_2 98 = .ok (.putfield 58, 3) := dk_181 0 58 (dk_at dksJ1_put_2_4 3 rfl rfl)
theorem dJ1_put_2_101 : decode cJ1_put_2 101 = .ok (.aload 8, 2) := dk_25 8 (dk_at dksJ1_put_2_4 6 rfl rfl)
theorem dJ1_put_2_103 : decode cJ1_put_2 103 = .ok (.areturn, 1) := dk_176 (dk_at dksJ1_put_2_4 8 rfl rfl)
theorem dJ1_put_2_104 : decode cJ1_put_2 104 = .ok (.aload 4, 2) := dk_25 4 (dk_at dksJ1_put_2_4 9 rfl rfl)
theorem dJ1_put_2_106 : decode cJ1_put_2 106 = .ok (.ifnonnull (-76), 3) := dk_199 255 180 (dk_at dksJ1_put_2_4 11 rfl rfl)
theorem dJ1_put_2_109 : decode cJ1_put_2 109 = .ok (.goto 92, 3) := dk_167 0 92 (dk_at dksJ1_put_2_4 14 rfl rfl)
theorem dJ1_put_2_112 : decode cJ1_put_2 112 = .ok (.aload_n 1, 1) := dk_43 (dk_at dksJ1_put_2_4 17 rfl rfl)
theorem dJ1_put_2_113 : decode cJ1_put_2 113 = .ok (.invokestatic 95, 3) := dk_184 0 95 (dk_at dksJ1_put_2_4 18 rfl rfl)
theorem dJ1_put_2_116 : decode cJ1_put_2 116 = .ok (.pop, 1) := dk_87 (dk_at dksJ1_put_2_4 21 rfl rfl)
theorem dJ1_put_2_117 : decode cJ1_put_2 117 = .ok (.aload_n 1, 1) := dk_43 (dk_at dksJ1_put_2_4 22 rfl rfl)
theorem dJ1_put_2_118 : decode cJ1_put_2 118 = .ok (.checkcast 99, 3) := dk_192 0 99 (dk_at dksJ1_put_2_5 0 rfl rfl)
theorem dJ1_put_2_121 : decode cJ1_put_2 121 = .ok (.astore 8, 2) := dk_58 8 (dk_at dksJ1_put_2_5 3 rfl rfl)
theorem dJ1_put_2_123 : decode cJ1_put_2 123 = .ok (.aload 4, 2) := dk_25 4 (dk_at dksJ1_put_2_5 5 rfl rfl)
theorem dJ1_put_2_125 : decode cJ1_put_2 125 = .ok (.astore 6, 2) := dk_58 6 (dk_at dksJ1_put_2_5 7 rfl rfl)
theorem dJ1_put_2_127 : decode cJ1_put_2 127 = .ok (.aload 8, 2) := dk_25 8 (dk_at dksJ1_put_2_5 9 rfl rfl)
theorem dJ1_put_2_129 : decode cJ1_put_2 129 = .ok (.aload 4, 2) := dk_25 4 (dk_at dksJ1_put_2_5 11 rfl rfl)
theorem dJ1_put_2_131 : decode cJ1_put_2 131 = .ok (.getfield 105, 3) := dk_180 0 105 (dk_at dksJ1_put_2_5 13 rfl rfl)
theorem dJ1_put_2_134 : decode cJ1_put_2 134 = .ok (.invokeinterface 107 2, 5) := by decide +kernel
theorem dJ1_put_2_139 : decode cJ1_put_2 139 = .ok (.istore 5, 2) := dk_54 5 (dk_at dksJ1_put_2_5 21 rfl rfl)
theorem dJ1_put_2_141 : decode cJ1_put_2 141 = .ok (.iload 5, 2) := dk_21 5 (dk_at dksJ1_put_2_6 0 rfl rfl)
theorem dJ1_put_2_143 : decode cJ1_put_2 143 = .ok (.ifCond .ge 13, 3) := dk_156 0 13 (dk_at dksJ1_put_2_6 2 rfl rfl)
theorem dJ1_put_2_146 : decode cJ1_put_2 146 = .ok (.aload 4, 2) := dk_25 4 (dk_at dksJ1_put_2_6 5 rfl rfl)
theorem dJ1_put_2_148 : decode cJ1_put_2 148 = .ok (.getfield 111, 3) := dk_180 0 111 (dk_at dksJ1_put_2_6 7 rfl rfl)
theorem dJ1_put_2_151 : decode cJ1_put_2 151 = .ok (.astore 4, 2) := dk_58 4 (dk_at dksJ1_put_2_6 10 rfl rfl)
theorem dJ1_put_2_153 : decode cJ1_put_2 153 = .ok (.goto 43, 3) := dk_167 0 43 (dk_at dksJ1_put_2_6 12 rfl rfl)
theorem dJ1_put_2_156 : decode cJ1_put_2 156 = .ok (.iload 5, 2) := dk_21 5 (dk_at dksJ1_put_2_6 15 rfl rfl)
theorem dJ1_put_2_158 : decode cJ1_put_2 158 = .ok (.ifCond .le 13, 3) := dk_158 0 13 (dk_at dksJ1_put_2_6 17 rfl rfl)
theorem dJ1_put_2_161 : decode cJ1_put_2 161 = .ok (.aload 4, 2) := dk_25 4 (dk_at dksJ1_put_2_6 20 rfl rfl)
theorem dJ1_put_2_163 : decode cJ1_put_2 163 = .ok (.getfield 114, 3) := dk_180 0 114 (dk_at dksJ1_put_2_7 0 rfl rfl)
theorem dJ1_put_2_166 : decode cJ1_put_2 166 = .ok (.astore 4, 2) := dk_58 4 (dk_at dksJ1_put_2_7 3 rfl rfl)
theorem dJ1_put_2_168 : decode cJ1_put_2 168 = .ok (.goto 28, 3) := dk_167 0 28 (dk_at dksJ1_put_2_7 5 rfl rfl)
theorem dJ1_put_2_171 : decode cJ1_put_2 171 = .ok (.aload 4, 2) := dk_25 4 (dk_at dksJ1_put_2_7 8 rfl rfl)
theorem dJ1_put_2_173 : decode cJ1_put_2 173 = .ok (.getfield 58, 3) := dk_180 0 58 (dk_at dksJ1_put_2_7 10 rfl rfl)
theorem dJ1_put_2_176 : decode cJ1_put_2 176 = .ok (.astore 9, 2) := dk_58 9 (dk_at dksJ1_put_2_7 13 rfl rfl)
theorem dJ1_put_2_178 : decode cJ1_put_2 178 = .ok (.iload_n 3, 1) := dk_29 (dk_at dksJ1_put_2_7 15 rfl rfl)
theorem dJ1_put_2_179 : decode cJ1_put_2 179 = .ok (.ifCond .ne 8, 3) := dk_154 0 8 (dk_at dksJ1_put_2_7 16 rfl rfl)
theorem dJ1_put_2_182 : decode cJ1_put_2 182 = .ok (.aload 9, 2) := dk_25 9 (dk_at dksJ1_put_2_7 19 rfl rfl)
theorem dJ1_put_2_184 : decode cJ1_put_2 184 = .ok (.ifnonnull 9, 3) := dk_199 0 9 (dk_at dksJ1_put_2_7 21 rfl rfl)
theorem dJ1_put_2_187 : decode cJ1_put_2 187 = .ok (.aload 4, 2) := dk_25 4 (dk_at dksJ1_put_2_8 0 rfl rfl)
theorem dJ1_put_2_189 : decode cJ1_put_2 189 = .ok (.aload_n 2, 1) := dk_44 (dk_at dksJ1_put_2_8 2 rfl rfl)
theorem dJ1_put_2_190 : decode cJ1_put_2 190 = .ok (.putfield 58, 3) := dk_181 0 58 (dk_at dksJ1_put_2_8 3 rfl rfl)
theorem dJ1_put_2_193 : decode cJ1_put_2 193 = .ok (.aload 9, 2) := dk_25 9 (dk_at dksJ1_put_2_8 6 rfl rfl)
theorem dJ1_put_2_195 : decode cJ1_put_2 195 = .ok (.areturn, 1) := dk_176 (dk_at dksJ1_put_2_8 8 rfl rfl)
theorem dJ1_put_2_196 : decode cJ1_put_2 196 = .ok (.aload 4, 2) := dk_25 4 (dk_at dksJ1_put_2_8 9 rfl rfl)
theorem dJ1_put_2_198 : decode cJ1_put_2 198 = .ok (.ifnonnull (-75), 3) := dk_199 255 181 (dk_at dksJ1_put_2_8 11 rfl rfl)
theorem dJ1_put_2_201 : decode cJ1_put_2 201 = .ok (.aload_n 0, 1) := dk_42 (dk_at dksJ1_put_2_8 14 rfl rfl)
theorem dJ1_put_2_202 : decode cJ1_put_2 202 = .ok (.aload_n 1, 1) := dk_43 (dk_at dksJ1_put_2_8 15 rfl rfl)
theorem dJ1_put_2_203 : decode cJ1_put_2 203 = .ok (.aload_n 2, 1) := dk_44 (dk_at dksJ1_put_2_8 16 rfl rfl)
theorem dJ1_put_2_204 : decode cJ1_put_2 204 = .ok (.aload 6, 2) := dk_25 6 (dk_at dksJ1_put_2_8 17 rfl rfl)
theorem dJ1_put_2_206 : decode cJ1_put_2 206 = .ok (.iload 5, 2) := dk_21 5 (dk_at dksJ1_put_2_8 19 rfl rfl)
theorem dJ1_put_2_208 : decode cJ1_put_2 208 = .ok (.ifCond .ge 7, 3) := dk_156 0 7 (dk_at dksJ1_put_2_8 21 rfl rfl)
theorem dJ1_put_2_211 : decode cJ1_put_2 211 = .ok (.iconst 1, 1) := dk_4 (dk_at dksJ1_put_2_9 0 rfl rfl)
theorem dJ1_put_2_212 : decode cJ1_put_2 212 = .ok (.goto 4, 3) := dk_167 0 4 (dk_at dksJ1_put_2_9 1 rfl rfl)
theorem dJ1_put_2_215 : decode cJ1_put_2 215 = .ok (.iconst 0, 1) := dk_3 (dk_at dksJ1_put_2_9 4 rfl rfl)
theorem dJ1_put_2_216 : decode cJ1_put_2 216 = .ok (.invokevirtual 139, 3) := dk_182 0 139 (dk_at dksJ1_put_2_9 5 rfl rfl)
theorem dJ1_put_2_219 : decode cJ1_put_2 219 = .ok (.aconst_null, 1) := dk_1 (dk_at dksJ1_put_2_9 8 rfl rfl)
theorem dJ1_put_2_220 : decode cJ1_put_2 220 = .ok (.areturn, 1) := dk_176 (dk_at dksJ1_put_2_9 9 rfl rfl)
abbrev cJ1_addEntryToEmptyMap : ByteArray := prog_81_method_30_code
def yJ1_addEntryToEmptyMap : MethodName := ⟨RJ1, "addEntryToEmptyMap", "(Ljava/lang/Object;Ljava/lang/Object;)V"⟩
def dkwJ1_addEntryToEmptyMap_1 : List UInt8 := [181, 0, 7, 42, 89, 180, 0, 13, 4, 96, 181, 0, 13, 177]
abbrev dktJ1_addEntryToEmptyMap_1 : List UInt8 := dkwJ1_addEntryToEmptyMap_1 ++ []
def dkwJ1_addEntryToEmptyMap_0 : List UInt8 := [42, 43, 43, 182, 0, 123, 87, 42, 187, 0, 59, 89, 43, 44, 1, 183, 0, 167, 181, 0, 101, 42, 4]
abbrev dktJ1_addEntryToEmptyMap_0 : List UInt8 := dkwJ1_addEntryToEmptyMap_0 ++ dktJ1_addEntryToEmptyMap_1
theorem dksJ1_addEntryToEmptyMap_0 : cJ1_addEntryToEmptyMap.data.toList.drop 0 = dktJ1_addEntryToEmptyMap_0 := by decide +kernel
theorem dksJ1_addEntryToEmptyMap_1 : cJ1_addEntryToEmptyMap.data.toList.drop 23 = dktJ1_addEntryToEmptyMap_1 := dk_seg dksJ1_addEntryToEmptyMap_0 23 rfl rfl
theorem dJ1_addEntryToEmptyMap_0 : decode cJ1_addEntryToEmptyMap 0 = .ok (.aload_n 0, 1) := dk_42 (dk_at dksJ1_addEntryToEmptyMap_0 0 rfl rfl)
theorem dJ1_addEntryToEmptyMap_1 : decode cJ1_addEntryToEmptyMap 1 = .ok (.aload_n 1, 1) := dk_43 (dk_at dksJ1_addEntryToEmptyMap_0 1 rfl rfl)
theorem dJ1_addEntryToEmptyMap_2 : decode cJ1_addEntryToEmptyMap 2 = .ok (.aload_n 1, 1) := dk_43 (dk_at dksJ1_addEntryToEmptyMap_0 2 rfl rfl)
theorem dJ1_addEntryToEmptyMap_3 : decode cJ1_addEntryToEmptyMap 3 = .ok (.invokevirtual 123, 3) := dk_182 0 123 (dk_at dksJ1_addEntryToEmptyMap_0 3 rfl rfl)
theorem dJ1_addEntryToEmptyMap_6 : decode cJ1_addEntryToEmptyMap 6 = .ok (.pop, 1) := dk_87 (dk_at dksJ1_addEntryToEmptyMap_0 6 rfl rfl)
theorem dJ1_addEntryToEmptyMap_7 : decode cJ1_addEntryToEmptyMap 7 = .ok (.aload_n 0, 1) := dk_42 (dk_at dksJ1_addEntryToEmptyMap_0 7 rfl rfl)
theorem dJ1_addEntryToEmptyMap_8 : decode cJ1_addEntryToEmptyMap 8 = .ok (.new 59, 3) := dk_187 0 59 (dk_at dksJ1_addEntryToEmptyMap_0 8 rfl rfl)
theorem dJ1_addEntryToEmptyMap_11 : decode cJ1_addEntryToEmptyMap 11 = .ok (.dup, 1) := dk_89 (dk_at dksJ1_addEntryToEmptyMap_0 11 rfl rfl)
theorem dJ1_addEntryToEmptyMap_12 : decode cJ1_addEntryToEmptyMap 12 = .ok (.aload_n 1, 1) := dk_43 (dk_at dksJ1_addEntryToEmptyMap_0 12 rfl rfl)
theorem dJ1_addEntryToEmptyMap_13 : decode cJ1_addEntryToEmptyMap 13 = .ok (.aload_n 2, 1) := dk_44 (dk_at dksJ1_addEntryToEmptyMap_0 13 rfl rfl)
theorem dJ1_addEntryToEmptyMap_14 : decode cJ1_addEntryToEmptyMap 14 = .ok (.aconst_null, 1) := dk_1 (dk_at dksJ1_addEntryToEmptyMap_0 14 rfl rfl)
theorem dJ1_addEntryToEmptyMap_15 : decode cJ1_addEntryToEmptyMap 15 = .ok (.invokespecial 167, 3) := dk_183 0 167 (dk_at dksJ1_addEntryToEmptyMap_0 15 rfl rfl)
theorem dJ1_addEntryToEmptyMap_18 : decode cJ1_addEntryToEmptyMap 18 = .ok (.putfield 101, 3) := dk_181 0 101 (dk_at dksJ1_addEntryToEmptyMap_0 18 rfl rfl)
theorem dJ1_addEntryToEmptyMap_21 : decode cJ1_addEntryToEmptyMap 21 = .ok (.aload_n 0, 1) := dk_42 (dk_at dksJ1_addEntryToEmptyMap_0 21 rfl rfl)
theorem dJ1_addEntryToEmptyMap_22 : decode cJ1_addEntryToEmptyMap 22 = .ok (.iconst 1, 1) := dk_4 (dk_at dksJ1_addEntryToEmptyMap_0 22 rfl rfl)
theorem dJ1_addEntryToEmptyMap_23 : decode cJ1_addEntryToEmptyMap 23 = .ok (.putfield 7, 3) := dk_181 0 7 (dk_at dksJ1_addEntryToEmptyMap_1 0 rfl rfl)
theorem dJ1_addEntryToEmptyMap_26 : decode cJ1_addEntryToEmptyMap 26 = .ok (.aload_n 0, 1) := dk_42 (dk_at dksJ1_addEntryToEmptyMap_1 3 rfl rfl)
theorem dJ1_addEntryToEmptyMap_27 : decode cJ1_addEntryToEmptyMap 27 = .ok (.dup, 1) := dk_89 (dk_at dksJ1_addEntryToEmptyMap_1 4 rfl rfl)
theorem dJ1_addEntryToEmptyMap_28 : decode cJ1_addEntryToEmptyMap 28 = .ok (.getfield 13, 3) := dk_180 0 13 (dk_at dksJ1_addEntryToEmptyMap_1 5 rfl rfl)
theorem dJ1_addEntryToEmptyMap_31 : decode cJ1_addEntryToEmptyMap 31 = .ok (.iconst 1, 1) := dk_4 (dk_at dksJ1_addEntryToEmptyMap_1 8 rfl rfl)
theorem dJ1_addEntryToEmptyMap_32 : decode cJ1_addEntryToEmptyMap 32 = .ok (.iadd, 1) := dk_96 (dk_at dksJ1_addEntryToEmptyMap_1 9 rfl rfl)
theorem dJ1_addEntryToEmptyMap_33 : decode cJ1_addEntryToEmptyMap 33 = .ok (.putfield 13, 3) := dk_181 0 13 (dk_at dksJ1_addEntryToEmptyMap_1 10 rfl rfl)
theorem dJ1_addEntryToEmptyMap_36 : decode cJ1_addEntryToEmptyMap 36 = .ok (.return_, 1) := dk_177 (dk_at dksJ1_addEntryToEmptyMap_1 13 rfl rfl)
abbrev cJ1_compare : ByteArray := prog_81_method_67_code
def yJ1_compare : MethodName := ⟨RJ1, "compare", "(Ljava/lang/Object;Ljava/lang/Object;)I"⟩
def dkwJ1_compare_1 : List UInt8 := [43, 44, 185, 0, 117, 3, 0, 172]
abbrev dktJ1_compare_1 : List UInt8 := dkwJ1_compare_1 ++ []
def dkwJ1_compare_0 : List UInt8 := [42, 180, 0, 16, 199, 0, 16, 43, 192, 0, 99, 44, 185, 0, 107, 2, 0, 167, 0, 14, 42, 180, 0, 16]
abbrev dktJ1_compare_0 : List UInt8 := dkwJ1_compare_0 ++ dktJ1_compare_1
theorem dksJ1_compare_0 : cJ1_compare.data.toList.drop 0 = dktJ1_compare_0 := by decide +kernel
theorem dksJ1_compare_1 : cJ1_compare.data.toList.drop 24 = dktJ1_compare_1 := dk_seg dksJ1_compare_0 24 rfl rfl
theorem dJ1_compare_0 : decode cJ1_compare 0 = .ok (.aload_n 0, 1) := dk_42 (dk_at dksJ1_compare_0 0 rfl rfl)
theorem dJ1_compare_1 : decode cJ1_compare 1 = .ok (.getfield 16, 3) := dk_180 0 16 (dk_at dksJ1_compare_0 1 rfl rfl)
theorem dJ1_compare_4 : decode cJ1_compare 4 = .ok (.ifnonnull 16, 3) := dk_199 0 16 (dk_at dksJ1_compare_0 4 rfl rfl)
theorem dJ1_compare_7 : decode cJ1_compare 7 = .ok (.aload_n 1, 1) := dk_43 (dk_at dksJ1_compare_0 7 rfl rfl)
theorem dJ1_compare_8 : decode cJ1_compare 8 = .ok (.checkcast 99, 3) := dk_192 0 99 (dk_at dksJ1_compare_0 8 rfl rfl)
theorem dJ1_compare_11 : decode cJ1_compare 11 = .ok (.aload_n 2, 1) := dk_44 (dk_at dksJ1_compare_0 11 rfl rfl)
theorem dJ1_compare_12 : decode cJ1_compare 12 = .ok (.invokeinterface 107 2, 5) := by decide +kernel
theorem dJ1_compare_17 : decode cJ1_compare 17 = .ok (.goto 14, 3) := dk_167 0 14 (dk_at dksJ1_compare_0 17 rfl rfl)
theorem dJ1_compare_20 : decode cJ1_compare 20 = .ok (.aload_n 0, 1) := dk_42 (dk_at dksJ1_compare_0 20 rfl rfl)
theorem dJ1_compare_21 : decode cJ1_compare 21 = .ok (.getfield 16, 3) := dk_180 0 16 (dk_at dksJ1_compare_0 21 rfl rfl)
theorem dJ1_compare_24 : decode cJ1_compare 24 = .ok (.aload_n 1, 1) := dk_43 (dk_at dksJ1_compare_1 0 rfl rfl)
theorem dJ1_compare_25 : decode cJ1_compare 25 = .ok (.aload_n 2, 1) := dk_44 (dk_at dksJ1_compare_1 1 rfl rfl)
theorem dJ1_compare_26 : decode cJ1_compare 26 = .ok (.invokeinterface 117 3, 5) := by decide +kernel
theorem dJ1_compare_31 : decode cJ1_compare 31 = .ok (.ireturn, 1) := dk_172 (dk_at dksJ1_compare_1 7 rfl rfl)
abbrev cJ1_addEntry : ByteArray := prog_81_method_29_code
def yJ1_addEntry : MethodName := ⟨RJ1, "addEntry", "(Ljava/lang/Object;Ljava/lang/Object;Ljava/util/TreeMap$Entry;Z)V"⟩
def dkwJ1_addEntry_2 : List UInt8 := [181, 0, 7, 42, 89, 180, 0, 13, 4, 96, 181, 0, 13, 177]
abbrev dktJ1_addEntry_2 : List UInt8 := dkwJ1_addEntry_2 ++ []
def dkwJ1_addEntry_1 : List UInt8 := [167, 0, 9, 45, 25, 5, 181, 0, 114, 42, 25, 5, 182, 0, 170, 42, 89, 180, 0, 7, 4, 96]
abbrev dktJ1_addEntry_1 : List UInt8 := dkwJ1_addEntry_1 ++ dktJ1_addEntry_2
def dkwJ1_addEntry_0 : List UInt8 := [187, 0, 59, 89, 43, 44, 45, 183, 0, 167, 58, 5, 21, 4, 153, 0, 12, 45, 25, 5, 181, 0, 111]
abbrev dktJ1_addEntry_0 : List UInt8 := dkwJ1_addEntry_0 ++ dktJ1_addEntry_1
theorem dksJ1_addEntry_0 : cJ1_addEntry.data.toList.drop 0 = dktJ1_addEntry_0 := by decide +kernel
theorem dksJ1_addEntry_1 : cJ1_addEntry.data.toList.drop 23 = dktJ1_addEntry_1 := dk_seg dksJ1_addEntry_0 23 rfl rfl
theorem dksJ1_addEntry_2 : cJ1_addEntry.data.toList.drop 45 = dktJ1_addEntry_2 := dk_seg dksJ1_addEntry_1 22 rfl rfl
theorem dJ1_addEntry_0 : decode cJ1_addEntry 0 = .ok (.new 59, 3) := dk_187 0 59 (dk_at dksJ1_addEntry_0 0 rfl rfl)
theorem dJ1_addEntry_3 : decode cJ1_addEntry 3 = .ok (.dup, 1) := dk_89 (dk_at dksJ1_addEntry_0 3 rfl rfl)
theorem dJ1_addEntry_4 : decode cJ1_addEntry 4 = .ok (.aload_n 1, 1) := dk_43 (dk_at dksJ1_addEntry_0 4 rfl rfl)
theorem dJ1_addEntry_5 : decode cJ1_addEntry 5 = .ok (.aload_n 2, 1) := dk_44 (dk_at dksJ1_addEntry_0 5 rfl rfl)
theorem dJ1_addEntry_6 : decode cJ1_addEntry 6 = .ok (.aload_n 3, 1) := dk_45 (dk_at dksJ1_addEntry_0 6 rfl rfl)
theorem dJ1_addEntry_7 : decode cJ1_addEntry 7 = .ok (.invokespecial 167, 3) := dk_183 0 167 (dk_at dksJ1_addEntry_0 7 rfl rfl)
theorem dJ1_addEntry_10 : decode cJ1_addEntry 10 = .ok (.astore 5, 2) := dk_58 5 (dk_at dksJ1_addEntry_0 10 rfl rfl)
theorem dJ1_addEntry_12 : decode cJ1_addEntry 12 = .ok (.iload 4, 2) := dk_21 4 (dk_at dksJ1_addEntry_0 12 rfl rfl)
theorem dJ1_addEntry_14 : decode cJ1_addEntry 14 = .ok (.ifCond .eq 12, 3) := dk_153 0 12 (dk_at dksJ1_addEntry_0 14 rfl rfl)
theorem dJ1_addEntry_17 : decode cJ1_addEntry 17 = .ok (.aload_n 3, 1) := dk_45 (dk_at dksJ1_addEntry_0 17 rfl rfl)
theorem dJ1_addEntry_18 : decode cJ1_addEntry 18 = .ok (.aload 5, 2) := dk_25 5 (dk_at dksJ1_addEntry_0 18 rfl rfl)
theorem dJ1_addEntry_20 : decode cJ1_addEntry 20 = .ok (.putfield 111, 3) := dk_181 0 111 (dk_at dksJ1_addEntry_0 20 rfl rfl)
theorem dJ1_addEntry_23 : decode cJ1_addEntry 23 = .ok (.goto 9, 3) := dk_167 0 9 (dk_at dksJ1_addEntry_1 0 rfl rfl)
theorem dJ1_addEntry_26 : decode cJ1_addEntry 26 = .ok (.aload_n 3, 1) := dk_45 (dk_at dksJ1_addEntry_1 3 rfl rfl)
theorem dJ1_addEntry_27 : decode cJ1_addEntry 27 = .ok (.aload 5, 2) := dk_25 5 (dk_at dksJ1_addEntry_1 4 rfl rfl)
theorem dJ1_addEntry_29 : decode cJ1_addEntry 29 = .ok (.putfield 114, 3) := dk_181 0 114 (dk_at dksJ1_addEntry_1 6 rfl rfl)
theorem dJ1_addEntry_32 : decode cJ1_addEntry 32 = .ok (.aload_n 0, 1) := dk_42 (dk_at dksJ1_addEntry_1 9 rfl rfl)
theorem dJ1_addEntry_33 : decode cJ1_addEntry 33 = .ok (.aload 5, 2) := dk_25 5 (dk_at dksJ1_addEntry_1 10 rfl rfl)
theorem dJ1_addEntry_35 : decode cJ1_addEntry 35 = .ok (.invokevirtual 170, 3) := dk_182 0 170 (dk_at dksJ1_addEntry_1 12 rfl rfl)
theorem dJ1_addEntry_38 : decode cJ1_addEntry 38 = .ok (.aload_n 0, 1) := dk_42 (dk_at dksJ1_addEntry_1 15 rfl rfl)
theorem dJ1_addEntry_39 : decode cJ1_addEntry 39 = .ok (.dup, 1) := dk_89 (dk_at dksJ1_addEntry_1 16 rfl rfl)
theorem dJ1_addEntry_40 : decode cJ1_addEntry 40 = .ok (.getfield 7, 3) := dk_180 0 7 (dk_at dksJ1_addEntry_1 17 rfl rfl)
theorem dJ1_addEntry_43 : decode cJ1_addEntry 43 = .ok (.iconst 1, 1) := dk_4 (dk_at dksJ1_addEntry_1 20 rfl rfl)
theorem dJ1_addEntry_44 : decode cJ1_addEntry 44 = .ok (.iadd, 1) := dk_96 (dk_at dksJ1_addEntry_1 21 rfl rfl)
theorem dJ1_addEntry_45 : decode cJ1_addEntry 45 = .ok (.putfield 7, 3) := dk_181 0 7 (dk_at dksJ1_addEntry_2 0 rfl rfl)
theorem dJ1_addEntry_48 : decode cJ1_addEntry 48 = .ok (.aload_n 0, 1) := dk_42 (dk_at dksJ1_addEntry_2 3 rfl rfl)
theorem dJ1_addEntry_49 : decode cJ1_addEntry 49 = .ok (.dup, 1) := dk_89 (dk_at dksJ1_addEntry_2 4 rfl rfl)
theorem dJ1_addEntry_50 : decode cJ1_addEntry 50 = .ok (.getfield 13, 3) := dk_180 0 13 (dk_at dksJ1_addEntry_2 5 rfl rfl)
theorem dJ1_addEntry_53 : decode cJ1_addEntry 53 = .ok (.iconst 1, 1) := dk_4 (dk_at dksJ1_addEntry_2 8 rfl rfl)
theorem dJ1_addEntry_54 : decode cJ1_addEntry 54 = .ok (.iadd, 1) := dk_96 (dk_at dksJ1_addEntry_2 9 rfl rfl)
theorem dJ1_addEntry_55 : decode cJ1_addEntry 55 = .ok (.putfield 13, 3) := dk_181 0 13 (dk_at dksJ1_addEntry_2 10 rfl rfl)
theorem dJ1_addEntry_58 : decode cJ1_addEntry 58 = .ok (.return_, 1) := dk_177 (dk_at dksJ1_addEntry_2 13 rfl rfl)
abbrev cJ1_fixAfterInsertion : ByteArray := prog_81_method_83_code
def yJ1_fixAfterInsertion : MethodName := ⟨RJ1, "fixAfterInsertion", "(Ljava/util/TreeMap$Entry;)V"⟩
def dkwJ1_fixAfterInsertion_11 : List UInt8 := [42, 180, 0, 101, 4, 181, 1, 34, 177]
abbrev dktJ1_fixAfterInsertion_11 : List UInt8 := dkwJ1_fixAfterInsertion_11 ++ []
def dkwJ1_fixAfterInsertion_10 : List UInt8 := [184, 1, 38, 184, 1, 38, 3, 184, 1, 51, 42, 43, 184, 1, 38, 184, 1, 38, 182, 1, 55, 167, 255, 6]
abbrev dktJ1_fixAfterInsertion_10 : List UInt8 := dkwJ1_fixAfterInsertion_10 ++ dktJ1_fixAfterInsertion_11
def dkwJ1_fixAfterInsertion_9 : List UInt8 := [166, 0, 13, 43, 184, 1, 38, 76, 42, 43, 182, 1, 58, 43, 184, 1, 38, 4, 184, 1, 51, 43]
abbrev dktJ1_fixAfterInsertion_9 : List UInt8 := dkwJ1_fixAfterInsertion_9 ++ dktJ1_fixAfterInsertion_10
def dkwJ1_fixAfterInsertion_8 : List UInt8 := [184, 1, 51, 43, 184, 1, 38, 184, 1, 38, 76, 167, 0, 54, 43, 43, 184, 1, 38, 184, 1, 41]
abbrev dktJ1_fixAfterInsertion_8 : List UInt8 := dkwJ1_fixAfterInsertion_8 ++ dktJ1_fixAfterInsertion_9
def dkwJ1_fixAfterInsertion_7 : List UInt8 := [154, 0, 38, 43, 184, 1, 38, 4, 184, 1, 51, 44, 4, 184, 1, 51, 43, 184, 1, 38, 184, 1, 38, 3]
abbrev dktJ1_fixAfterInsertion_7 : List UInt8 := dkwJ1_fixAfterInsertion_7 ++ dktJ1_fixAfterInsertion_8
def dkwJ1_fixAfterInsertion_6 : List UInt8 := [184, 1, 38, 182, 1, 58, 167, 255, 113, 43, 184, 1, 38, 184, 1, 38, 184, 1, 41, 77, 44, 184, 1, 47]
abbrev dktJ1_fixAfterInsertion_6 : List UInt8 := dkwJ1_fixAfterInsertion_6 ++ dktJ1_fixAfterInsertion_7
def dkwJ1_fixAfterInsertion_5 : List UInt8 := [43, 184, 1, 38, 4, 184, 1, 51, 43, 184, 1, 38, 184, 1, 38, 3, 184, 1, 51, 42, 43, 184, 1, 38]
abbrev dktJ1_fixAfterInsertion_5 : List UInt8 := dkwJ1_fixAfterInsertion_5 ++ dktJ1_fixAfterInsertion_6
def dkwJ1_fixAfterInsertion_4 : List UInt8 := [167, 0, 54, 43, 43, 184, 1, 38, 184, 1, 44, 166, 0, 13, 43, 184, 1, 38, 76, 42, 43, 182, 1, 55]
abbrev dktJ1_fixAfterInsertion_4 : List UInt8 := dkwJ1_fixAfterInsertion_4 ++ dktJ1_fixAfterInsertion_5
def dkwJ1_fixAfterInsertion_3 : List UInt8 := [184, 1, 51, 43, 184, 1, 38, 184, 1, 38, 3, 184, 1, 51, 43, 184, 1, 38, 184, 1, 38, 76]
abbrev dktJ1_fixAfterInsertion_3 : List UInt8 := dkwJ1_fixAfterInsertion_3 ++ dktJ1_fixAfterInsertion_4
def dkwJ1_fixAfterInsertion_2 : List UInt8 := [184, 1, 38, 184, 1, 44, 77, 44, 184, 1, 47, 154, 0, 38, 43, 184, 1, 38, 4, 184, 1, 51, 44, 4]
abbrev dktJ1_fixAfterInsertion_2 : List UInt8 := dkwJ1_fixAfterInsertion_2 ++ dktJ1_fixAfterInsertion_3
def dkwJ1_fixAfterInsertion_1 : List UInt8 := [154, 0, 234, 43, 184, 1, 38, 43, 184, 1, 38, 184, 1, 38, 184, 1, 41, 166, 0, 110, 43, 184, 1, 38]
abbrev dktJ1_fixAfterInsertion_1 : List UInt8 := dkwJ1_fixAfterInsertion_1 ++ dktJ1_fixAfterInsertion_2
def dkwJ1_fixAfterInsertion_0 : List UInt8 := [43, 3, 181, 1, 34, 43, 198, 0, 252, 43, 42, 180, 0, 101, 165, 0, 244, 43, 180, 0, 124, 180, 1, 34]
abbrev dktJ1_fixAfterInsertion_0 : List UInt8 := dkwJ1_fixAfterInsertion_0 ++ dktJ1_fixAfterInsertion_1
theorem dksJ1_fixAfterInsertion_0 : cJ1_fixAfterInsertion.data.toList.drop 0 = dktJ1_fixAfterInsertion_0 := by decide +kernel
theorem dksJ1_fixAfterInsertion_1 : cJ1_fixAfterInsertion.data.toList.drop 24 = dktJ1_fixAfterInsertion_1 := dk_seg dksJ1_fixAfterInsertion_0 24 rfl rfl
theorem dksJ1_fixAfterInsertion_2 : cJ1_fixAfterInsertion.data.toList.drop 48 = dktJ1_fixAfterInsertion_2 := dk_seg dksJ1_fixAfterInsertion_1 24 rfl rfl
theorem dksJ1_fixAfterInsertion_3 : cJ1_fixAfterInsertion.data.toList.drop 72 = dktJ1_fixAfterInsertion_3 := dk_seg dksJ1_fixAfterInsertion_2 24 rfl rfl
theorem dksJ1_fixAfterInsertion_4 : cJ1_fixAfterInsertion.data.toList.drop 94 = dktJ1_fixAfterInsertion_4 := dk_seg dksJ1_fixAfterInsertion_3 22 rfl rfl
theorem dksJ1_fixAfterInsertion_5 : cJ1_fixAfterInsertion.data.toList.drop 118 = dktJ1_fixAfterInsertion_5 := dk_seg dksJ1_fixAfterInsertion_4 24 rfl rfl
theorem dksJ1_fixAfterInsertion_6 : cJ1_fixAfterInsertion.data.toList.drop 142 = dktJ1_fixAfterInsertion_6 := dk_seg dksJ1_fixAfterInsertion_5 24 rfl rfl
theorem dksJ1_fixAfterInsertion_7 : cJ1_fixAfterInsertion.data.toList.drop 166 = dktJ1_fixAfterInsertion_7 := dk_seg dksJ1_fixAfterInsertion_6 24 rfl rfl
theorem dksJ1_fixAfterInsertion_8 : cJ1_fixAfterInsertion.data.toList.drop 190 = dktJ1_fixAfterInsertion_8 := dk_seg dksJ1_fixAfterInsertion_7 24 rfl rfl
theorem dksJ1_fixAfterInsertion_9 : cJ1_fixAfterInsertion.data.toList.drop 212 = dktJ1_fixAfterInsertion_9 := dk_seg dksJ1_fixAfterInsertion_8 22 rfl rfl
theorem dksJ1_fixAfterInsertion_10 : cJ1_fixAfterInsertion.data.toList.drop 234 = dktJ1_fixAfterInsertion_10 := dk_seg dksJ1_fixAfterInsertion_9 22 rfl rfl
theorem dksJ1_fixAfterInsertion_11 : cJ1_fixAfterInsertion.data.toList.drop 258 = dktJ1_fixAfterInsertion_11 := dk_seg dksJ1_fixAfterInsertion_10 24 rfl rfl
theorem dJ1_fixAfterInsertion_0 : decode cJ1_fixAfterInsertion 0 = .ok (.aload_n 1, 1) := dk_43 (dk_at dksJ1_fixAfterInsertion_0 0 rfl rfl)
theorem dJ1_fixAfterInsertion_1 : decode cJ1_fixAfterInsertion 1 = .ok (.iconst 0, 1) := dk_3 (dk_at dksJ1_fixAfterInsertion_0 1 rfl rfl)
theorem dJ1_fixAfterInsertion_2 : decode cJ1_fixAfterInsertion 2 = .ok (.putfield 290, 3) := dk_181 1 34 (dk_at dksJ1_fixAfterInsertion_0 2 rfl rfl)
theorem dJ1_fixAfterInsertion_5 : decode cJ1_fixAfterInsertion 5 = .ok (.aload_n 1, 1) := dk_43 (dk_at dksJ1_fixAfterInsertion_0 5 rfl rfl)
theorem dJ1_fixAfterInsertion_6 : decode cJ1_fixAfterInsertion 6 = .ok (.ifnull 252, 3) := dk_198 0 252 (dk_at dksJ1_fixAfterInsertion_0 6 rfl rfl)
theorem dJ1_fixAfterInsertion_9 : decode cJ1_fixAfterInsertion 9 = .ok (.aload_n 1, 1) := dk_43 (dk_at dksJ1_fixAfterInsertion_0 9 rfl rfl)
theorem dJ1_fixAfterInsertion_10 : decode cJ1_fixAfterInsertion 10 = .ok (.aload_n 0, 1) := dk_42 (dk_at dksJ1_fixAfterInsertion_0 10 rfl rfl)
theorem dJ1_fixAfterInsertion_11 : decode cJ1_fixAfterInsertion 11 = .ok (.getfield 101, 3) := dk_180 0 101 (dk_at dksJ1_fixAfterInsertion_0 11 rfl rfl)
theorem dJ1_fixAfterInsertion_14 : decode cJ1_fixAfterInsertion 14 = .ok (.if_acmp .eq 244, 3) := dk_165 0 244 (dk_at dksJ1_fixAfterInsertion_0 14 rfl rfl)
theorem dJ1_fixAfterInsertion_17 : decode cJ1_fixAfterInsertion 17 = .ok (.aload_n 1, 1) := dk_43 (dk_at dksJ1_fixAfterInsertion_0 17 rfl rfl)
theorem dJ1_fixAfterInsertion_18 : decode cJ1_fixAfterInsertion 18 = .ok (.getfield 124, 3) := dk_180 0 124 (dk_at dksJ1_fixAfterInsertion_0 18 rfl rfl)
theorem dJ1_fixAfterInsertion_21 : decode cJ1_fixAfterInsertion 21 = .ok (.getfield 290, 3) := dk_180 1 34 (dk_at dksJ1_fixAfterInsertion_0 21 rfl rfl)
theorem dJ1_fixAfterInsertion_24 : decode cJ1_fixAfterInsertion 24 = .ok (.ifCond .ne 234, 3) := dk_154 0 234 (dk_at dksJ1_fixAfterInsertion_1 0 rfl rfl)
theorem dJ1_fixAfterInsertion_27 : decode cJ1_fixAfterInsertion 27 = .ok (.aload_n 1, 1) := dk_43 (dk_at dksJ1_fixAfterInsertion_1 3 rfl rfl)
theorem dJ1_fixAfterInsertion_28 : decode cJ1_fixAfterInsertion 28 = .ok (.invokestatic 294, 3) := dk_184 1 38 (dk_at dksJ1_fixAfterInsertion_1 4 rfl rfl)
theorem dJ1_fixAfterInsertion_31 : decode cJ1_fixAfterInsertion 31 = .ok (.aload_n 1, 1) := dk_43 (dk_at dksJ1_fixAfterInsertion_1 7 rfl rfl)
theorem dJ1_fixAfterInsertion_32 : decode cJ1_fixAfterInsertion 32 = .ok (.invokestatic 294, 3) := dk_184 1 38 (dk_at dksJ1_fixAfterInsertion_1 8 rfl rfl)
theorem dJ1_fixAfterInsertion_35 : decode cJ1_fixAfterInsertion 35 = .ok (.invokestatic 294, 3) := dk_184 1 38 (dk_at dksJ1_fixAfterInsertion_1 11 rfl rfl)
theorem dJ1_fixAfterInsertion_38 : decode cJ1_fixAfterInsertion 38 = .ok (.invokestatic 297, 3) := dk_184 1 41 (dk_at dksJ1_fixAfterInsertion_1 14 rfl rfl)
theorem dJ1_fixAfterInsertion_41 : decode cJ1_fixAfterInsertion 41 = .ok (.if_acmp .ne 110, 3) := dk_166 0 110 (dk_at dksJ1_fixAfterInsertion_1 17 rfl rfl)
theorem dJ1_fixAfterInsertion_44 : decode cJ1_fixAfterInsertion 44 = .ok (.aload_n 1, 1) := dk_43 (dk_at dksJ1_fixAfterInsertion_1 20 rfl rfl)
theorem dJ1_fixAfterInsertion_45 : decode cJ1_fixAfterInsertion 45 = .ok (.invokestatic 294, 3) := dk_184 1 38 (dk_at dksJ1_fixAfterInsertion_1 21 rfl rfl)
theorem dJ1_fixAfterInsertion_48 : decode cJ1_fixAfterInsertion 48 = .ok (.invokestatic 294, 3) := dk_184 1 38 (dk_at dksJ1_fixAfterInsertion_2 0 rfl rfl)
theorem dJ1_fixAfterInsertion_51 : decode cJ1_fixAfterInsertion 51 = .ok (.invokestatic 300, 3) := dk_184 1 44 (dk_at dksJ1_fixAfterInsertion_2 3 rfl rfl)
theorem dJ1_fixAfterInsertion_54 : decode cJ1_fixAfterInsertion 54 = .ok (.astore_n 2, 1) := dk_77 (dk_at dksJ1_fixAfterInsertion_2 6 rfl rfl)
theorem dJ1_fixAfterInsertion_55 : decode cJ1_fixAfterInsertion 55 = .ok (.aload_n 2, 1) := dk_44 (dk_at dksJ1_fixAfterInsertion_2 7 rfl rfl)
theorem dJ1_fixAfterInsertion_56 : decode cJ1_fixAfterInsertion 56 = .ok (.invokestatic 303, 3) := dk_184 1 47 (dk_at dksJ1_fixAfterInsertion_2 8 rfl rfl)
theorem dJ1_fixAfterInsertion_59 : decode cJ1_fixAfterInsertion 59 = .ok (.ifCond .ne 38, 3) := dk_154 0 38 (dk_at dksJ1_fixAfterInsertion_2 11 rfl rfl)
theorem dJ1_fixAfterInsertion_62 : decode cJ1_fixAfterInsertion 62 = .ok (.aload_n 1, 1) := dk_43 (dk_at dksJ1_fixAfterInsertion_2 14 rfl rfl)
theorem dJ1_fixAfterInsertion_63 : decode cJ1_fixAfterInsertion 63 = .ok (.invokestatic 294, 3) := dk_184 1 38 (dk_at dksJ1_fixAfterInsertion_2 15 rfl rfl)
theorem dJ1_fixAfterInsertion_66 : decode cJ1_fixAfterInsertion 66 = .ok (.iconst 1, 1) := dk_4 (dk_at dksJ1_fixAfterInsertion_2 18 rfl rfl)
theorem dJ1_fixAfterInsertion_67 : decode cJ1_fixAfterInsertion 67 = .ok (.invokestatic 307, 3) := dk_184 1 51 (dk_at dksJ1_fixAfterInsertion_2 19 rfl rfl)
theorem dJ1_fixAfterInsertion_70 : decode cJ1_fixAfterInsertion 70 = .ok (.aload_n 2, 1) := dk_44 (dk_at dksJ1_fixAfterInsertion_2 22 rfl rfl)
theorem dJ1_fixAfterInsertion_71 : decode cJ1_fixAfterInsertion 71 = .ok (.iconst 1, 1) := dk_4 (dk_at dksJ1_fixAfterInsertion_2 23 rfl rfl)
theorem dJ1_fixAfterInsertion_72 : decode cJ1_fixAfterInsertion 72 = .ok (.invokestatic 307, 3) := dk_184 1 51 (dk_at dksJ1_fixAfterInsertion_3 0 rfl rfl)
theorem dJ1_fixAfterInsertion_75 : decode cJ1_fixAfterInsertion 75 = .ok (.aload_n 1, 1) := dk_43 (dk_at dksJ1_fixAfterInsertion_3 3 rfl rfl)
theorem dJ1_fixAfterInsertion_76 : decode cJ1_fixAfterInsertion 76 = .ok (.invokestatic 294, 3) := dk_184 1 38 (dk_at dksJ1_fixAfterInsertion_3 4 rfl rfl)
theorem dJ1_fixAfterInsertion_79 : decode cJ1_fixAfterInsertion 79 = .ok (.invokestatic 294, 3) := dk_184 1 38 (dk_at dksJ1_fixAfterInsertion_3 7 rfl rfl)
theorem dJ1_fixAfterInsertion_82 : decode cJ1_fixAfterInsertion 82 = .ok (.iconst 0, 1) := dk_3 (dk_at dksJ1_fixAfterInsertion_3 10 rfl rfl)
theorem dJ1_fixAfterInsertion_83 : decode cJ1_fixAfterInsertion 83 = .ok (.invokestatic 307, 3) := dk_184 1 51 (dk_at dksJ1_fixAfterInsertion_3 11 rfl rfl)
theorem dJ1_fixAfterInsertion_86 : decode cJ1_fixAfterInsertion 86 = .ok (.aload_n 1, 1) := dk_43 (dk_at dksJ1_fixAfterInsertion_3 14 rfl rfl)
theorem dJ1_fixAfterInsertion_87 : decode cJ1_fixAfterInsertion 87 = .ok (.invokestatic 294, 3) := dk_184 1 38 (dk_at dksJ1_fixAfterInsertion_3 15 rfl rfl)
theorem dJ1_fixAfterInsertion_90 : decode cJ1_fixAfterInsertion 90 = .ok (.invokestatic 294, 3) := dk_184 1 38 (dk_at dksJ1_fixAfterInsertion_3 18 rfl rfl)
theorem dJ1_fixAfterInsertion_93 : decode cJ1_fixAfterInsertion 93 = .ok (.astore_n 1, 1) := dk_76 (dk_at dksJ1_fixAfterInsertion_3 21 rfl rfl)
theorem dJ1_fixAfterInsertion_94 : decode cJ1_fixAfterInsertion 94 = .ok (.goto 54, 3) := dk_167 0 54 (dk_at dksJ1_fixAfterInsertion_4 0 rfl rfl)
theorem dJ1_fixAfterInsertion_97 : decode cJ1_fixAfterInsertion 97 = .ok (.aload_n 1, 1) := dk_43 (dk_at dksJ1_fixAfterInsertion_4 3 rfl rfl)
theorem dJ1_fixAfterInsertion_98 : decode cJ1_fixAfterInsertion 98 = .ok (.aload_n 1, 1) := dk_43 (dk_at dksJ1_fixAfterInsertion_4 4 rfl rfl)
theorem dJ1_fixAfterInsertion_99 : decode cJ1_fixAfterInsertion 99 = .ok (.invokestatic 294, 3) := dk_184 1 38 (dk_at dksJ1_fixAfterInsertion_4 5 rfl rfl)
theorem dJ1_fixAfterInsertion_102 : decode cJ1_fixAfterInsertion 102 = .ok (.invokestatic 300, 3) := dk_184 1 44 (dk_at dksJ1_fixAfterInsertion_4 8 rfl rfl)
theorem dJ1_fixAfterInsertion_105 : decode cJ1_fixAfterInsertion 105 = .ok (.if_acmp .ne 13, 3) := dk_166 0 13 (dk_at dksJ1_fixAfterInsertion_4 11 rfl rfl)
theorem dJ1_fixAfterInsertion_108 : decode cJ1_fixAfterInsertion 108 = .ok (.aload_n 1, 1) := dk_43 (dk_at dksJ1_fixAfterInsertion_4 14 rfl rfl)
theorem dJ1_fixAfterInsertion_109 : decode cJ1_fixAfterInsertion 109 = .ok (.invokestatic 294, 3) := dk_184 1 38 (dk_at dksJ1_fixAfterInsertion_4 15 rfl rfl)
theorem dJ1_fixAfterInsertion_112 : decode cJ1_fixAfterInsertion 112 = .ok (.astore_n 1, 1) := dk_76 (dk_at dksJ1_fixAfterInsertion_4 18 rfl rfl)
theorem dJ1_fixAfterInsertion_113 : decode cJ1_fixAfterInsertion 113 = .ok (.aload_n 0, 1) := dk_42 (dk_at dksJ1_fixAfterInsertion_4 19 rfl rfl)
theorem dJ1_fixAfterInsertion_114 : decode cJ1_fixAfterInsertion 114 = .ok (.aload_n 1, 1) := dk_43 (dk_at dksJ1_fixAfterInsertion_4 20 rfl rfl)
theorem dJ1_fixAfterInsertion_115 : decode cJ1_fixAfterInsertion 115 = .ok (.invokevirtual 311, 3) := dk_182 1 55 (dk_at dksJ1_fixAfterInsertion_4 21 rfl rfl)
theorem dJ1_fixAfterInsertion_118 : decode cJ1_fixAfterInsertion 118 = .ok (.aload_n 1, 1) := dk_43 (dk_at dksJ1_fixAfterInsertion_5 0 rfl rfl)
theorem dJ1_fixAfterInsertion_119 : decode cJ1_fixAfterInsertion 119 = .ok (.invokestatic 294, 3) := dk_184 1 38 (dk_at dksJ1_fixAfterInsertion_5 1 rfl rfl)
theorem dJ1_fixAfterInsertion_122 : decode cJ1_fixAfterInsertion 122 = .ok (.iconst 1, 1) := dk_4 (dk_at dksJ1_fixAfterInsertion_5 4 rfl rfl)
theorem dJ1_fixAfterInsertion_123 : decode cJ1_fixAfterInsertion 123 = .ok (.invokestatic 307, 3) := dk_184 1 51 (dk_at dksJ1_fixAfterInsertion_5 5 rfl rfl)
theorem dJ1_fixAfterInsertion_126 : decode cJ1_fixAfterInsertion 126 = .ok (.aload_n 1, 1) := dk_43 (dk_at dksJ1_fixAfterInsertion_5 8 rfl rfl)
theorem dJ1_fixAfterInsertion_127 : decode cJ1_fixAfterInsertion 127 = .ok (.invokestatic 294, 3) := dk_184 1 38 (dk_at dksJ1_fixAfterInsertion_5 9 rfl rfl)
theorem dJ1_fixAfterInsertion_130 : decode cJ1_fixAfterInsertion 130 = .ok (.invokestatic 294, 3) := dk_184 1 38 (dk_at dksJ1_fixAfterInsertion_5 12 rfl rfl)
theorem dJ1_fixAfterInsertion_133 : decode cJ1_fixAfterInsertion 133 = .ok (.iconst 0, 1) := dk_3 (dk_at dksJ1_fixAfterInsertion_5 15 rfl rfl)
theorem dJ1_fixAfterInsertion_134 : decode cJ1_fixAfterInsertion 134 = .ok (.invokestatic 307, 3) := dk_184 1 51 (dk_at dksJ1_fixAfterInsertion_5 16 rfl rfl)
theorem dJ1_fixAfterInsertion_137 : decode cJ1_fixAfterInsertion 137 = .ok (.aload_n 0, 1) := dk_42 (dk_at dksJ1_fixAfterInsertion_5 19 rfl rfl)
theorem dJ1_fixAfterInsertion_138 : decode cJ1_fixAfterInsertion 138 = .ok (.aload_n 1, 1) := dk_43 (dk_at dksJ1_fixAfterInsertion_5 20 rfl rfl)
theorem dJ1_fixAfterInsertion_139 : decode cJ1_fixAfterInsertion 139 = .ok (.invokestatic 294, 3) := dk_184 1 38 (dk_at dksJ1_fixAfterInsertion_5 21 rfl rfl)
theorem dJ1_fixAfterInsertion_142 : decode cJ1_fixAfterInsertion 142 = .ok (.invokestatic 294, 3) := dk_184 1 38 (dk_at dksJ1_fixAfterInsertion_6 0 rfl rfl)
theorem dJ1_fixAfterInsertion_145 : decode cJ1_fixAfterInsertion 145 = .ok (.invokevirtual 314, 3) := dk_182 1 58 (dk_at dksJ1_fixAfterInsertion_6 3 rfl rfl)
theorem dJ1_fixAfterInsertion_148 : decode cJ1_fixAfterInsertion 148 = .ok (.goto (-143), 3) := dk_167 255 113 (dk_at dksJ1_fixAfterInsertion_6 6 rfl rfl)
theorem dJ1_fixAfterInsertion_151 : decode cJ1_fixAfterInsertion 151 = .ok (.aload_n 1, 1) := dk_43 (dk_at dksJ1_fixAfterInsertion_6 9 rfl rfl)
theorem dJ1_fixAfterInsertion_152 : decode cJ1_fixAfterInsertion 152 = .ok (.invokestatic 294, 3) := dk_184 1 38 (dk_at dksJ1_fixAfterInsertion_6 10 rfl rfl)
theorem dJ1_fixAfterInsertion_155 : decode cJ1_fixAfterInsertion 155 = .ok (.invokestatic 294, 3) := dk_184 1 38 (dk_at dksJ1_fixAfterInsertion_6 13 rfl rfl)
theorem dJ1_fixAfterInsertion_158 : decode cJ1_fixAfterInsertion 158 = .ok (.invokestatic 297, 3) := dk_184 1 41 (dk_at dksJ1_fixAfterInsertion_6 16 rfl rfl)
theorem dJ1_fixAfterInsertion_161 : decode cJ1_fixAfterInsertion 161 = .ok (.astore_n 2, 1) := dk_77 (dk_at dksJ1_fixAfterInsertion_6 19 rfl rfl)
theorem dJ1_fixAfterInsertion_162 : decode cJ1_fixAfterInsertion 162 = .ok (.aload_n 2, 1) := dk_44 (dk_at dksJ1_fixAfterInsertion_6 20 rfl rfl)
theorem dJ1_fixAfterInsertion_163 : decode cJ1_fixAfterInsertion 163 = .ok (.invokestatic 303, 3) := dk_184 1 47 (dk_at dksJ1_fixAfterInsertion_6 21 rfl rfl)
theorem dJ1_fixAfterInsertion_166 : decode cJ1_fixAfterInsertion 166 = .ok (.ifCond .ne 38, 3) := dk_154 0 38 (dk_at dksJ1_fixAfterInsertion_7 0 rfl rfl)
theorem dJ1_fixAfterInsertion_169 : decode cJ1_fixAfterInsertion 169 = .ok (.aload_n 1, 1) := dk_43 (dk_at dksJ1_fixAfterInsertion_7 3 rfl rfl)
theorem dJ1_fixAfterInsertion_170 : decode cJ1_fixAfterInsertion 170 = .ok (.invokestatic 294, 3) := dk_184 1 38 (dk_at dksJ1_fixAfterInsertion_7 4 rfl rfl)
theorem dJ1_fixAfterInsertion_173 : decode cJ1_fixAfterInsertion 173 = .ok (.iconst 1, 1) := dk_4 (dk_at dksJ1_fixAfterInsertion_7 7 rfl rfl)
theorem dJ1_fixAfterInsertion_174 : decode cJ1_fixAfterInsertion 174 = .ok (.invokestatic 307, 3) := dk_184 1 51 (dk_at dksJ1_fixAfterInsertion_7 8 rfl rfl)
theorem dJ1_fixAfterInsertion_177 : decode cJ1_fixAfterInsertion 177 = .ok (.aload_n 2, 1) := dk_44 (dk_at dksJ1_fixAfterInsertion_7 11 rfl rfl)
theorem dJ1_fixAfterInsertion_178 : decode cJ1_fixAfterInsertion 178 = .ok (.iconst 1, 1) := dk_4 (dk_at dksJ1_fixAfterInsertion_7 12 rfl rfl)
theorem dJ1_fixAfterInsertion_179 : decode cJ1_fixAfterInsertion 179 = .ok (.invokestatic 307, 3) := dk_184 1 51 (dk_at dksJ1_fixAfterInsertion_7 13 rfl rfl)
theorem dJ1_fixAfterInsertion_182 : decode cJ1_fixAfterInsertion 182 = .ok (.aload_n 1, 1) := dk_43 (dk_at dksJ1_fixAfterInsertion_7 16 rfl rfl)
theorem dJ1_fixAfterInsertion_183 : decode cJ1_fixAfterInsertion 183 = .ok (.invokestatic 294, 3) := dk_184 1 38 (dk_at dksJ1_fixAfterInsertion_7 17 rfl rfl)
theorem dJ1_fixAfterInsertion_186 : decode cJ1_fixAfterInsertion 186 = .ok (.invokestatic 294, 3) := dk_184 1 38 (dk_at dksJ1_fixAfterInsertion_7 20 rfl rfl)
theorem dJ1_fixAfterInsertion_189 : decode cJ1_fixAfterInsertion 189 = .ok (.iconst 0, 1) := dk_3 (dk_at dksJ1_fixAfterInsertion_7 23 rfl rfl)
theorem dJ1_fixAfterInsertion_190 : decode cJ1_fixAfterInsertion 190 = .ok (.invokestatic 307, 3) := dk_184 1 51 (dk_at dksJ1_fixAfterInsertion_8 0 rfl rfl)
theorem dJ1_fixAfterInsertion_193 : decode cJ1_fixAfterInsertion 193 = .ok (.aload_n 1, 1) := dk_43 (dk_at dksJ1_fixAfterInsertion_8 3 rfl rfl)
theorem dJ1_fixAfterInsertion_194 : decode cJ1_fixAfterInsertion 194 = .ok (.invokestatic 294, 3) := dk_184 1 38 (dk_at dksJ1_fixAfterInsertion_8 4 rfl rfl)
theorem dJ1_fixAfterInsertion_197 : decode cJ1_fixAfterInsertion 197 = .ok (.invokestatic 294, 3) := dk_184 1 38 (dk_at dksJ1_fixAfterInsertion_8 7 rfl rfl)
theorem dJ1_fixAfterInsertion_200 : decode cJ1_fixAfterInsertion 200 = .ok (.astore_n 1, 1) := dk_76 (dk_at dksJ1_fixAfterInsertion_8 10 rfl rfl)
theorem dJ1_fixAfterInsertion_201 : decode cJ1_fixAfterInsertion 201 = .ok (.goto 54, 3) := dk_167 0 54 (dk_at dksJ1_fixAfterInsertion_8 11 rfl rfl)
theorem dJ1_fixAfterInsertion_204 : decode cJ1_fixAfterInsertion 204 = .ok (.aload_n 1, 1) := dk_43 (dk_at dksJ1_fixAfterInsertion_8 14 rfl rfl)
theorem dJ1_fixAfterInsertion_205 : decode cJ1_fixAfterInsertion 205 = .ok (.aload_n 1, 1) := dk_43 (dk_at dksJ1_fixAfterInsertion_8 15 rfl rfl)
theorem dJ1_fixAfterInsertion_206 : decode cJ1_fixAfterInsertion 206 = .ok (.invokestatic 294, 3) := dk_184 1 38 (dk_at dksJ1_fixAfterInsertion_8 16 rfl rfl)
theorem dJ1_fixAfterInsertion_209 : decode cJ1_fixAfterInsertion 209 = .ok (.invokestatic 297, 3) := dk_184 1 41 (dk_at dksJ1_fixAfterInsertion_8 19 rfl rfl)
theorem dJ1_fixAfterInsertion_212 : decode cJ1_fixAfterInsertion 212 = .ok (.if_acmp .ne 13, 3) := dk_166 0 13 (dk_at dksJ1_fixAfterInsertion_9 0 rfl rfl)
theorem dJ1_fixAfterInsertion_215 : decode cJ1_fixAfterInsertion 215 = .ok (.aload_n 1, 1) := dk_43 (dk_at dksJ1_fixAfterInsertion_9 3 rfl rfl)
theorem dJ1_fixAfterInsertion_216 : decode cJ1_fixAfterInsertion 216 = .ok (.invokestatic 294, 3) := dk_184 1 38 (dk_at dksJ1_fixAfterInsertion_9 4 rfl rfl)
theorem dJ1_fixAfterInsertion_219 : decode cJ1_fixAfterInsertion 219 = .ok (.astore_n 1, 1) := dk_76 (dk_at dksJ1_fixAfterInsertion_9 7 rfl rfl)
theorem dJ1_fixAfterInsertion_220 : decode cJ1_fixAfterInsertion 220 = .ok (.aload_n 0, 1) := dk_42 (dk_at dksJ1_fixAfterInsertion_9 8 rfl rfl)
theorem dJ1_fixAfterInsertion_221 : decode cJ1_fixAfterInsertion 221 = .ok (.aload_n 1, 1) := dk_43 (dk_at dksJ1_fixAfterInsertion_9 9 rfl rfl)
theorem dJ1_fixAfterInsertion_222 : decode cJ1_fixAfterInsertion 222 = .ok (.invokevirtual 314, 3) := dk_182 1 58 (dk_at dksJ1_fixAfterInsertion_9 10 rfl rfl)
theorem dJ1_fixAfterInsertion_225 : decode cJ1_fixAfterInsertion 225 = .ok (.aload_n 1, 1) := dk_43 (dk_at dksJ1_fixAfterInsertion_9 13 rfl rfl)
theorem dJ1_fixAfterInsertion_226 : decode cJ1_fixAfterInsertion 226 = .ok (.invokestatic 294, 3) := dk_184 1 38 (dk_at dksJ1_fixAfterInsertion_9 14 rfl rfl)
theorem dJ1_fixAfterInsertion_229 : decode cJ1_fixAfterInsertion 229 = .ok (.iconst 1, 1) := dk_4 (dk_at dksJ1_fixAfterInsertion_9 17 rfl rfl)
theorem dJ1_fixAfterInsertion_230 : decode cJ1_fixAfterInsertion 230 = .ok (.invokestatic 307, 3) := dk_184 1 51 (dk_at dksJ1_fixAfterInsertion_9 18 rfl rfl)
theorem dJ1_fixAfterInsertion_233 : decode cJ1_fixAfterInsertion 233 = .ok (.aload_n 1, 1) := dk_43 (dk_at dksJ1_fixAfterInsertion_9 21 rfl rfl)
theorem dJ1_fixAfterInsertion_234 : decode cJ1_fixAfterInsertion 234 = .ok (.invokestatic 294, 3) := dk_184 1 38 (dk_at dksJ1_fixAfterInsertion_10 0 rfl rfl)
theorem dJ1_fixAfterInsertion_237 : decode cJ1_fixAfterInsertion 237 = .ok (.invokestatic 294, 3) := dk_184 1 38 (dk_at dksJ1_fixAfterInsertion_10 3 rfl rfl)
theorem dJ1_fixAfterInsertion_240 : decode cJ1_fixAfterInsertion 240 = .ok (.iconst 0, 1) := dk_3 (dk_at dksJ1_fixAfterInsertion_10 6 rfl rfl)
theorem dJ1_fixAfterInsertion_241 : decode cJ1_fixAfterInsertion 241 = .ok (.invokestatic 307, 3) := dk_184 1 51 (dk_at dksJ1_fixAfterInsertion_10 7 rfl rfl)
theorem dJ1_fixAfterInsertion_244 : decode cJ1_fixAfterInsertion 244 = .ok (.aload_n 0, 1) := dk_42 (dk_at dksJ1_fixAfterInsertion_10 10 rfl rfl)
theorem dJ1_fixAfterInsertion_245 : decode cJ1_fixAfterInsertion 245 = .ok (.aload_n 1, 1) := dk_43 (dk_at dksJ1_fixAfterInsertion_10 11 rfl rfl)
theorem dJ1_fixAfterInsertion_246 : decode cJ1_fixAfterInsertion 246 = .ok (.invokestatic 294, 3) := dk_184 1 38 (dk_at dksJ1_fixAfterInsertion_10 12 rfl rfl)
theorem dJ1_fixAfterInsertion_249 : decode cJ1_fixAfterInsertion 249 = .ok (.invokestatic 294, 3) := dk_184 1 38 (dk_at dksJ1_fixAfterInsertion_10 15 rfl rfl)
theorem dJ1_fixAfterInsertion_252 : decode cJ1_fixAfterInsertion 252 = .ok (.invokevirtual 311, 3) := dk_182 1 55 (dk_at dksJ1_fixAfterInsertion_10 18 rfl rfl)
theorem dJ1_fixAfterInsertion_255 : decode cJ1_fixAfterInsertion 255 = .ok (.goto (-250), 3) := dk_167 255 6 (dk_at dksJ1_fixAfterInsertion_10 21 rfl rfl)
theorem dJ1_fixAfterInsertion_258 : decode cJ1_fixAfterInsertion 258 = .ok (.aload_n 0, 1) := dk_42 (dk_at dksJ1_fixAfterInsertion_11 0 rfl rfl)
theorem dJ1_fixAfterInsertion_259 : decode cJ1_fixAfterInsertion 259 = .ok (.getfield 101, 3) := dk_180 0 101 (dk_at dksJ1_fixAfterInsertion_11 1 rfl rfl)
theorem dJ1_fixAfterInsertion_262 : decode cJ1_fixAfterInsertion 262 = .ok (.iconst 1, 1) := dk_4 (dk_at dksJ1_fixAfterInsertion_11 4 rfl rfl)
theorem dJ1_fixAfterInsertion_263 : decode cJ1_fixAfterInsertion 263 = .ok (.putfield 290, 3) := dk_181 1 34 (dk_at dksJ1_fixAfterInsertion_11 5 rfl rfl)
theorem dJ1_fixAfterInsertion_266 : decode cJ1_fixAfterInsertion 266 = .ok (.return_, 1) := dk_177 (dk_at dksJ1_fixAfterInsertion_11 8 rfl rfl)
abbrev cJ1_parentOf : ByteArray := prog_81_method_77_code
def yJ1_parentOf : MethodName := ⟨RJ1, "parentOf", "(Ljava/util/TreeMap$Entry;)Ljava/util/TreeMap$Entry;"⟩
def dkwJ1_parentOf_0 : List UInt8 := [42, 199, 0, 7, 1, 167, 0, 7, 42, 180, 0, 124, 176]
abbrev dktJ1_parentOf_0 : List UInt8 := dkwJ1_parentOf_0 ++ []
theorem dksJ1_parentOf_0 : cJ1_parentOf.data.toList.drop 0 = dktJ1_parentOf_0 := by decide +kernel
theorem dJ1_parentOf_0 : decode cJ1_parentOf 0 = .ok (.aload_n 0, 1) := dk_42 (dk_at dksJ1_parentOf_0 0 rfl rfl)
theorem dJ1_parentOf_1 : decode cJ1_parentOf 1 = .ok (.ifnonnull 7, 3) := dk_199 0 7 (dk_at dksJ1_parentOf_0 1 rfl rfl)
theorem dJ1_parentOf_4 : decode cJ1_parentOf 4 = .ok (.aconst_null, 1) := dk_1 (dk_at dksJ1_parentOf_0 4 rfl rfl)
theorem dJ1_parentOf_5 : decode cJ1_parentOf 5 = .ok (.goto 7, 3) := dk_167 0 7 (dk_at dksJ1_parentOf_0 5 rfl rfl)
theorem dJ1_parentOf_8 : decode cJ1_parentOf 8 = .ok (.aload_n 0, 1) := dk_42 (dk_at dksJ1_parentOf_0 8 rfl rfl)
theorem dJ1_parentOf_9 : decode cJ1_parentOf 9 = .ok (.getfield 124, 3) := dk_180 0 124 (dk_at dksJ1_parentOf_0 9 rfl rfl)
theorem dJ1_parentOf_12 : decode cJ1_parentOf 12 = .ok (.areturn, 1) := dk_176 (dk_at dksJ1_parentOf_0 12 rfl rfl)
abbrev cJ1_leftOf : ByteArray := prog_81_method_79_code
def yJ1_leftOf : MethodName := ⟨RJ1, "leftOf", "(Ljava/util/TreeMap$Entry;)Ljava/util/TreeMap$Entry;"⟩
def dkwJ1_leftOf_0 : List UInt8 := [42, 199, 0, 7, 1, 167, 0, 7, 42, 180, 0, 111, 176]
abbrev dktJ1_leftOf_0 : List UInt8 := dkwJ1_leftOf_0 ++ []
theorem dksJ1_leftOf_0 : cJ1_leftOf.data.toList.drop 0 = dktJ1_leftOf_0 := by decide +kernel
theorem dJ1_leftOf_0 : decode cJ1_leftOf 0 = .ok (.aload_n 0, 1) := dk_42 (dk_at dksJ1_leftOf_0 0 rfl rfl)
theorem dJ1_leftOf_1 : decode cJ1_leftOf 1 = .ok (.ifnonnull 7, 3) := dk_199 0 7 (dk_at dksJ1_leftOf_0 1 rfl rfl)
theorem dJ1_leftOf_4 : decode cJ1_leftOf 4 = .ok (.aconst_null, 1) := dk_1 (dk_at dksJ1_leftOf_0 4 rfl rfl)
theorem dJ1_leftOf_5 : decode cJ1_leftOf 5 = .ok (.goto 7, 3) := dk_167 0 7 (dk_at dksJ1_leftOf_0 5 rfl rfl)
theorem dJ1_leftOf_8 : decode cJ1_leftOf 8 = .ok (.aload_n 0, 1) := dk_42 (dk_at dksJ1_leftOf_0 8 rfl rfl)
theorem dJ1_leftOf_9 : decode cJ1_leftOf 9 = .ok (.getfield 111, 3) := dk_180 0 111 (dk_at dksJ1_leftOf_0 9 rfl rfl)
theorem dJ1_leftOf_12 : decode cJ1_leftOf 12 = .ok (.areturn, 1) := dk_176 (dk_at dksJ1_leftOf_0 12 rfl rfl)
abbrev cJ1_rightOf : ByteArray := prog_81_method_80_code
def yJ1_rightOf : MethodName := ⟨RJ1, "rightOf", "(Ljava/util/TreeMap$Entry;)Ljava/util/TreeMap$Entry;"⟩
def dkwJ1_rightOf_0 : List UInt8 := [42, 199, 0, 7, 1, 167, 0, 7, 42, 180, 0, 114, 176]
abbrev dktJ1_rightOf_0 : List UInt8 := dkwJ1_rightOf_0 ++ []
theorem dksJ1_rightOf_0 : cJ1_rightOf.data.toList.drop 0 = dktJ1_rightOf_0 := by decide +kernel
theorem dJ1_rightOf_0 : decode cJ1_rightOf 0 = .ok (.aload_n 0, 1) := dk_42 (dk_at dksJ1_rightOf_0 0 rfl rfl)
theorem dJ1_rightOf_1 : decode cJ1_rightOf 1 = .ok (.ifnonnull 7, 3) := dk_199 0 7 (dk_at dksJ1_rightOf_0 1 rfl rfl)
theorem dJ1_rightOf_4 : decode cJ1_rightOf 4 = .ok (.aconst_null, 1) := dk_1 (dk_at dksJ1_rightOf_0 4 rfl rfl)
theorem dJ1_rightOf_5 : decode cJ1_rightOf 5 = .ok (.goto 7, 3) := dk_167 0 7 (dk_at dksJ1_rightOf_0 5 rfl rfl)
theorem dJ1_rightOf_8 : decode cJ1_rightOf 8 = .ok (.aload_n 0, 1) := dk_42 (dk_at dksJ1_rightOf_0 8 rfl rfl)
theorem dJ1_rightOf_9 : decode cJ1_rightOf 9 = .ok (.getfield 114, 3) := dk_180 0 114 (dk_at dksJ1_rightOf_0 9 rfl rfl)
theorem dJ1_rightOf_12 : decode cJ1_rightOf 12 = .ok (.areturn, 1) := dk_176 (dk_at dksJ1_rightOf_0 12 rfl rfl)
abbrev cJ1_colorOf : ByteArray := prog_81_method_76_code
def yJ1_colorOf : MethodName := ⟨RJ1, "colorOf", "(Ljava/util/TreeMap$Entry;)Z"⟩
def dkwJ1_colorOf_0 : List UInt8 := [42, 199, 0, 7, 4, 167, 0, 7, 42, 180, 1, 34, 172]
abbrev dktJ1_colorOf_0 : List UInt8 := dkwJ1_colorOf_0 ++ []
theorem dksJ1_colorOf_0 : cJ1_colorOf.data.toList.drop 0 = dktJ1_colorOf_0 := by decide +kernel
theorem dJ1_colorOf_0 : decode cJ1_colorOf 0 = .ok (.aload_n 0, 1) := dk_42 (dk_at dksJ1_colorOf_0 0 rfl rfl)
theorem dJ1_colorOf_1 : decode cJ1_colorOf 1 = .ok (.ifnonnull 7, 3) := dk_199 0 7 (dk_at dksJ1_colorOf_0 1 rfl rfl)
theorem dJ1_colorOf_4 : decode cJ1_colorOf 4 = .ok (.iconst 1, 1) := dk_4 (dk_at dksJ1_colorOf_0 4 rfl rfl)
theorem dJ1_colorOf_5 : decode cJ1_colorOf 5 = .ok (.goto 7, 3) := dk_167 0 7 (dk_at dksJ1_colorOf_0 5 rfl rfl)
theorem dJ1_colorOf_8 : decode cJ1_colorOf 8 = .ok (.aload_n 0, 1) := dk_42 (dk_at dksJ1_colorOf_0 8 rfl rfl)
theorem dJ1_colorOf_9 : decode cJ1_colorOf 9 = .ok (.getfield 290, 3) := dk_180 1 34 (dk_at dksJ1_colorOf_0 9 rfl rfl)
theorem dJ1_colorOf_12 : decode cJ1_colorOf 12 = .ok (.ireturn, 1) := dk_172 (dk_at dksJ1_colorOf_0 12 rfl rfl)
abbrev cJ1_setColor : ByteArray := prog_81_method_78_code
def yJ1_setColor : MethodName := ⟨RJ1, "setColor", "(Ljava/util/TreeMap$Entry;Z)V"⟩
def dkwJ1_setColor_0 : List UInt8 := [42, 198, 0, 8, 42, 27, 181, 1, 34, 177]
abbrev dktJ1_setColor_0 : List UInt8 := dkwJ1_setColor_0 ++ []
theorem dksJ1_setColor_0 : cJ1_setColor.data.toList.drop 0 = dktJ1_setColor_0 := by decide +kernel
theorem dJ1_setColor_0 : decode cJ1_setColor 0 = .ok (.aload_n 0, 1) := dk_42 (dk_at dksJ1_setColor_0 0 rfl rfl)
theorem dJ1_setColor_1 : decode cJ1_setColor 1 = .ok (.ifnull 8, 3) := dk_198 0 8 (dk_at dksJ1_setColor_0 1 rfl rfl)
theorem dJ1_setColor_4 : decode cJ1_setColor 4 = .ok (.aload_n 0, 1) := dk_42 (dk_at dksJ1_setColor_0 4 rfl rfl)
theorem dJ1_setColor_5 : decode cJ1_setColor 5 = .ok (.iload_n 1, 1) := dk_27 (dk_at dksJ1_setColor_0 5 rfl rfl)
theorem dJ1_setColor_6 : decode cJ1_setColor 6 = .ok (.putfield 290, 3) := dk_181 1 34 (dk_at dksJ1_setColor_0 6 rfl rfl)
theorem dJ1_setColor_9 : decode cJ1_setColor 9 = .ok (.return_, 1) := dk_177 (dk_at dksJ1_setColor_0 9 rfl rfl)
abbrev cJ1_rotateLeft : ByteArray := prog_81_method_81_code
def yJ1_rotateLeft : MethodName := ⟨RJ1, "rotateLeft", "(Ljava/util/TreeMap$Entry;)V"⟩
def dkwJ1_rotateLeft_4 : List UInt8 := [177]
abbrev dktJ1_rotateLeft_4 : List UInt8 := dkwJ1_rotateLeft_4 ++ []
def dkwJ1_rotateLeft_3 : List UInt8 := [181, 0, 111, 167, 0, 11, 43, 180, 0, 124, 44, 181, 0, 114, 44, 43, 181, 0, 111, 43, 44, 181, 0, 124]
abbrev dktJ1_rotateLeft_3 : List UInt8 := dkwJ1_rotateLeft_3 ++ dktJ1_rotateLeft_4
def dkwJ1_rotateLeft_2 : List UInt8 := [44, 181, 0, 101, 167, 0, 33, 43, 180, 0, 124, 180, 0, 111, 43, 166, 0, 14, 43, 180, 0, 124, 44]
abbrev dktJ1_rotateLeft_2 : List UInt8 := dkwJ1_rotateLeft_2 ++ dktJ1_rotateLeft_3
def dkwJ1_rotateLeft_1 : List UInt8 := [44, 180, 0, 111, 43, 181, 0, 124, 44, 43, 180, 0, 124, 181, 0, 124, 43, 180, 0, 124, 199, 0, 11, 42]
abbrev dktJ1_rotateLeft_1 : List UInt8 := dkwJ1_rotateLeft_1 ++ dktJ1_rotateLeft_2
def dkwJ1_rotateLeft_0 : List UInt8 := [43, 198, 0, 94, 43, 180, 0, 114, 77, 43, 44, 180, 0, 111, 181, 0, 114, 44, 180, 0, 111, 198, 0, 11]
abbrev dktJ1_rotateLeft_0 : List UInt8 := dkwJ1_rotateLeft_0 ++ dktJ1_rotateLeft_1
theorem dksJ1_rotateLeft_0 : cJ1_rotateLeft.data.toList.drop 0 = dktJ1_rotateLeft_0 := by decide +kernel
theorem dksJ1_rotateLeft_1 : cJ1_rotateLeft.data.toList.drop 24 = dktJ1_rotateLeft_1 := dk_seg dksJ1_rotateLeft_0 24 rfl rfl
theorem dksJ1_rotateLeft_2 : cJ1_rotateLeft.data.toList.drop 48 = dktJ1_rotateLeft_2 := dk_seg dksJ1_rotateLeft_1 24 rfl rfl
theorem dksJ1_rotateLeft_3 : cJ1_rotateLeft.data.toList.drop 71 = dktJ1_rotateLeft_3 := dk_seg dksJ1_rotateLeft_2 23 rfl rfl
theorem dksJ1_rotateLeft_4 : cJ1_rotateLeft.data.toList.drop 95 = dktJ1_rotateLeft_4 := dk_seg dksJ1_rotateLeft_3 24 rfl rfl
theorem dJ1_rotateLeft_0 : decode cJ1_rotateLeft 0 = .ok (.aload_n 1, 1) := dk_43 (dk_at dksJ1_rotateLeft_0 0 rfl rfl)
theorem dJ1_rotateLeft_1 : decode cJ1_rotateLeft 1 = .ok (.ifnull 94, 3) := dk_198 0 94 (dk_at dksJ1_rotateLeft_0 1 rfl rfl)
theorem dJ1_rotateLeft_4 : decode cJ1_rotateLeft 4 = .ok (.aload_n 1, 1) := dk_43 (dk_at dksJ1_rotateLeft_0 4 rfl rfl)
theorem dJ1_rotateLeft_5 : decode cJ1_rotateLeft 5 = .ok (.getfield 114, 3) := dk_180 0 114 (dk_at dksJ1_rotateLeft_0 5 rfl rfl)
theorem dJ1_rotateLeft_8 : decode cJ1_rotateLeft 8 = .ok (.astore_n 2, 1) := dk_77 (dk_at dksJ1_rotateLeft_0 8 rfl rfl)
theorem dJ1_rotateLeft_9 : decode cJ1_rotateLeft 9 = .ok (.aload_n 1, 1) := dk_43 (dk_at dksJ1_rotateLeft_0 9 rfl rfl)
theorem dJ1_rotateLeft_10 : decode cJ1_rotateLeft 10 = .ok (.aload_n 2, 1) := dk_44 (dk_at dksJ1_rotateLeft_0 10 rfl rfl)
theorem dJ1_rotateLeft_11 : decode cJ1_rotateLeft 11 = .ok (.getfield 111, 3) := dk_180 0 111 (dk_at dksJ1_rotateLeft_0 11 rfl rfl)
theorem dJ1_rotateLeft_14 : decode cJ1_rotateLeft 14 = .ok (.putfield 114, 3) := dk_181 0 114 (dk_at dksJ1_rotateLeft_0 14 rfl rfl)
theorem dJ1_rotateLeft_17 : decode cJ1_rotateLeft 17 = .ok (.aload_n 2, 1) := dk_44 (dk_at dksJ1_rotateLeft_0 17 rfl rfl)
theorem dJ1_rotateLeft_18 : decode cJ1_rotateLeft 18 = .ok (.getfield 111, 3) := dk_180 0 111 (dk_at dksJ1_rotateLeft_0 18 rfl rfl)
theorem dJ1_rotateLeft_21 : decode cJ1_rotateLeft 21 = .ok (.ifnull 11, 3) := dk_198 0 11 (dk_at dksJ1_rotateLeft_0 21 rfl rfl)
theorem dJ1_rotateLeft_24 : decode cJ1_rotateLeft 24 = .ok (.aload_n 2, 1) := dk_44 (dk_at dksJ1_rotateLeft_1 0 rfl rfl)
theorem dJ1_rotateLeft_25 : decode cJ1_rotateLeft 25 = .ok (.getfield 111, 3) := dk_180 0 111 (dk_at dksJ1_rotateLeft_1 1 rfl rfl)
theorem dJ1_rotateLeft_28 : decode cJ1_rotateLeft 28 = .ok (.aload_n 1, 1) := dk_43 (dk_at dksJ1_rotateLeft_1 4 rfl rfl)
theorem dJ1_rotateLeft_29 : decode cJ1_rotateLeft 29 = .ok (.putfield 124, 3) := dk_181 0 124 (dk_at dksJ1_rotateLeft_1 5 rfl rfl)
theorem dJ1_rotateLeft_32 : decode cJ1_rotateLeft 32 = .ok (.aload_n 2, 1) := dk_44 (dk_at dksJ1_rotateLeft_1 8 rfl rfl)
theorem dJ1_rotateLeft_33 : decode cJ1_rotateLeft 33 = .ok (.aload_n 1, 1) := dk_43 (dk_at dksJ1_rotateLeft_1 9 rfl rfl)
theorem dJ1_rotateLeft_34 : decode cJ1_rotateLeft 34 = .ok (.getfield 124, 3) := dk_180 0 124 (dk_at dksJ1_rotateLeft_1 10 rfl rfl)
theorem dJ1_rotateLeft_37 : decode cJ1_rotateLeft 37 = .ok (.putfield 124, 3) := dk_181 0 124 (dk_at dksJ1_rotateLeft_1 13 rfl rfl)
theorem dJ1_rotateLeft_40 : decode cJ1_rotateLeft 40 = .ok (.aload_n 1, 1) := dk_43 (dk_at dksJ1_rotateLeft_1 16 rfl rfl)
theorem dJ1_rotateLeft_41 : decode cJ1_rotateLeft 41 = .ok (.getfield 124, 3) := dk_180 0 124 (dk_at dksJ1_rotateLeft_1 17 rfl rfl)
theorem dJ1_rotateLeft_44 : decode cJ1_rotateLeft 44 = .ok (.ifnonnull 11, 3) := dk_199 0 11 (dk_at dksJ1_rotateLeft_1 20 rfl rfl)
theorem dJ1_rotateLeft_47 : decode cJ1_rotateLeft 47 = .ok (.aload_n 0, 1) := dk_42 (dk_at dksJ1_rotateLeft_1 23 rfl rfl)
theorem dJ1_rotateLeft_48 : decode cJ1_rotateLeft 48 = .ok (.aload_n 2, 1) := dk_44 (dk_at dksJ1_rotateLeft_2 0 rfl rfl)
theorem dJ1_rotateLeft_49 : decode cJ1_rotateLeft 49 = .ok (.putfield 101, 3) := dk_181 0 101 (dk_at dksJ1_rotateLeft_2 1 rfl rfl)
theorem dJ1_rotateLeft_52 : decode cJ1_rotateLeft 52 = .ok (.goto 33, 3) := dk_167 0 33 (dk_at dksJ1_rotateLeft_2 4 rfl rfl)
theorem dJ1_rotateLeft_55 : decode cJ1_rotateLeft 55 = .ok (.aload_n 1, 1) := dk_43 (dk_at dksJ1_rotateLeft_2 7 rfl rfl)
theorem dJ1_rotateLeft_56 : decode cJ1_rotateLeft 56 = .ok (.getfield 124, 3) := dk_180 0 124 (dk_at dksJ1_rotateLeft_2 8 rfl rfl)
theorem dJ1_rotateLeft_59 : decode cJ1_rotateLeft 59 = .ok (.getfield 111, 3) := dk_180 0 111 (dk_at dksJ1_rotateLeft_2 11 rfl rfl)
theorem dJ1_rotateLeft_62 : decode cJ1_rotateLeft 62 = .ok (.aload_n 1, 1) := dk_43 (dk_at dksJ1_rotateLeft_2 14 rfl rfl)
theorem dJ1_rotateLeft_63 : decode cJ1_rotateLeft 63 = .ok (.if_acmp .ne 14, 3) := dk_166 0 14 (dk_at dksJ1_rotateLeft_2 15 rfl rfl)
theorem dJ1_rotateLeft_66 : decode cJ1_rotateLeft 66 = .ok (.aload_n 1, 1) := dk_43 (dk_at dksJ1_rotateLeft_2 18 rfl rfl)
theorem dJ1_rotateLeft_67 : decode cJ1_rotateLeft 67 = .ok (.getfield 124, 3) := dk_180 0 124 (dk_at dksJ1_rotateLeft_2 19 rfl rfl)
theorem dJ1_rotateLeft_70 : decode cJ1_rotateLeft 70 = .ok (.aload_n 2, 1) := dk_44 (dk_at dksJ1_rotateLeft_2 22 rfl rfl)
theorem dJ1_rotateLeft_71 : decode cJ1_rotateLeft 71 = .ok (.putfield 111, 3) := dk_181 0 111 (dk_at dksJ1_rotateLeft_3 0 rfl rfl)
theorem dJ1_rotateLeft_74 : decode cJ1_rotateLeft 74 = .ok (.goto 11, 3) := dk_167 0 11 (dk_at dksJ1_rotateLeft_3 3 rfl rfl)
theorem dJ1_rotateLeft_77 : decode cJ1_rotateLeft 77 = .ok (.aload_n 1, 1) := dk_43 (dk_at dksJ1_rotateLeft_3 6 rfl rfl)
theorem dJ1_rotateLeft_78 : decode cJ1_rotateLeft 78 = .ok (.getfield 124, 3) := dk_180 0 124 (dk_at dksJ1_rotateLeft_3 7 rfl rfl)
theorem dJ1_rotateLeft_81 : decode cJ1_rotateLeft 81 = .ok (.aload_n 2, 1) := dk_44 (dk_at dksJ1_rotateLeft_3 10 rfl rfl)
theorem dJ1_rotateLeft_82 : decode cJ1_rotateLeft 82 = .ok (.putfield 114, 3) := dk_181 0 114 (dk_at dksJ1_rotateLeft_3 11 rfl rfl)
theorem dJ1_rotateLeft_85 : decode cJ1_rotateLeft 85 = .ok (.aload_n 2, 1) := dk_44 (dk_at dksJ1_rotateLeft_3 14 rfl rfl)
theorem dJ1_rotateLeft_86 : decode cJ1_rotateLeft 86 = .ok (.aload_n 1, 1) := dk_43 (dk_at dksJ1_rotateLeft_3 15 rfl rfl)
theorem dJ1_rotateLeft_87 : decode cJ1_rotateLeft 87 = .ok (.putfield 111, 3) := dk_181 0 111 (dk_at dksJ1_rotateLeft_3 16 rfl rfl)
theorem dJ1_rotateLeft_90 : decode cJ1_rotateLeft 90 = .ok (.aload_n 1, 1) := dk_43 (dk_at dksJ1_rotateLeft_3 19 rfl rfl)
theorem dJ1_rotateLeft_91 : decode cJ1_rotateLeft 91 = .ok (.aload_n 2, 1) := dk_44 (dk_at dksJ1_rotateLeft_3 20 rfl rfl)
theorem dJ1_rotateLeft_92 : decode cJ1_rotateLeft 92 = .ok (.putfield 124, 3) := dk_181 0 124 (dk_at dksJ1_rotateLeft_3 21 rfl rfl)
theorem dJ1_rotateLeft_95 : decode cJ1_rotateLeft 95 = .ok (.return_, 1) := dk_177 (dk_at dksJ1_rotateLeft_4 0 rfl rfl)
abbrev cJ1_rotateRight : ByteArray := prog_81_method_82_code
def yJ1_rotateRight : MethodName := ⟨RJ1, "rotateRight", "(Ljava/util/TreeMap$Entry;)V"⟩
def dkwJ1_rotateRight_4 : List UInt8 := [177]
abbrev dktJ1_rotateRight_4 : List UInt8 := dkwJ1_rotateRight_4 ++ []
def dkwJ1_rotateRight_3 : List UInt8 := [181, 0, 114, 167, 0, 11, 43, 180, 0, 124, 44, 181, 0, 111, 44, 43, 181, 0, 114, 43, 44, 181, 0, 124]
abbrev dktJ1_rotateRight_3 : List UInt8 := dkwJ1_rotateRight_3 ++ dktJ1_rotateRight_4
def dkwJ1_rotateRight_2 : List UInt8 := [44, 181, 0, 101, 167, 0, 33, 43, 180, 0, 124, 180, 0, 114, 43, 166, 0, 14, 43, 180, 0, 124, 44]
abbrev dktJ1_rotateRight_2 : List UInt8 := dkwJ1_rotateRight_2 ++ dktJ1_rotateRight_3
def dkwJ1_rotateRight_1 : List UInt8 := [44, 180, 0, 114, 43, 181, 0, 124, 44, 43, 180, 0, 124, 181, 0, 124, 43, 180, 0, 124, 199, 0, 11, 42]
abbrev dktJ1_rotateRight_1 : List UInt8 := dkwJ1_rotateRight_1 ++ dktJ1_rotateRight_2
def dkwJ1_rotateRight_0 : List UInt8 := [43, 198, 0, 94, 43, 180, 0, 111, 77, 43, 44, 180, 0, 114, 181, 0, 111, 44, 180, 0, 114, 198, 0, 11]
abbrev dktJ1_rotateRight_0 : List UInt8 := dkwJ1_rotateRight_0 ++ dktJ1_rotateRight_1
theorem dksJ1_rotateRight_0 : cJ1_rotateRight.data.toList.drop 0 = dktJ1_rotateRight_0 := by decide +kernel
theorem dksJ1_rotateRight_1 : cJ1_rotateRight.data.toList.drop 24 = dktJ1_rotateRight_1 := dk_seg dksJ1_rotateRight_0 24 rfl rfl
theorem dksJ1_rotateRight_2 : cJ1_rotateRight.data.toList.drop 48 = dktJ1_rotateRight_2 := dk_seg dksJ1_rotateRight_1 24 rfl rfl
theorem dksJ1_rotateRight_3 : cJ1_rotateRight.data.toList.drop 71 = dktJ1_rotateRight_3 := dk_seg dksJ1_rotateRight_2 23 rfl rfl
theorem dksJ1_rotateRight_4 : cJ1_rotateRight.data.toList.drop 95 = dktJ1_rotateRight_4 := dk_seg dksJ1_rotateRight_3 24 rfl rfl
theorem dJ1_rotateRight_0 : decode cJ1_rotateRight 0 = .ok (.aload_n 1, 1) := dk_43 (dk_at dksJ1_rotateRight_0 0 rfl rfl)
theorem dJ1_rotateRight_1 : decode cJ1_rotateRight 1 = .ok (.ifnull 94, 3) := dk_198 0 94 (dk_at dksJ1_rotateRight_0 1 rfl rfl)
theorem dJ1_rotateRight_4 : decode cJ1_rotateRight 4 = .ok (.aload_n 1, 1) := dk_43 (dk_at dksJ1_rotateRight_0 4 rfl rfl)
theorem dJ1_rotateRight_5 : decode cJ1_rotateRight 5 = .ok (.getfield 111, 3) := dk_180 0 111 (dk_at dksJ1_rotateRight_0 5 rfl rfl)
theorem dJ1_rotateRight_8 : decode cJ1_rotateRight 8 = .ok (.astore_n 2, 1) := dk_77 (dk_at dksJ1_rotateRight_0 8 rfl rfl)
theorem dJ1_rotateRight_9 : decode cJ1_rotateRight 9 = .ok (.aload_n 1, 1) := dk_43 (dk_at dksJ1_rotateRight_0 9 rfl rfl)
theorem dJ1_rotateRight_10 : decode cJ1_rotateRight 10 = .ok (.aload_n 2, 1) := dk_44 (dk_at dksJ1_rotateRight_0 10 rfl rfl)
theorem dJ1_rotateRight_11 : decode cJ1_rotateRight 11 = .ok (.getfield 114, 3) := dk_180 0 114 (dk_at dksJ1_rotateRight_0 11 rfl rfl)
theorem dJ1_rotateRight_14 : decode cJ1_rotateRight 14 = .ok (.putfield 111, 3) := dk_181 0 111 (dk_at dksJ1_rotateRight_0 14 rfl rfl)
theorem dJ1_rotateRight_17 : decode cJ1_rotateRight 17 = .ok (.aload_n 2, 1) := dk_44 (dk_at dksJ1_rotateRight_0 17 rfl rfl)
theorem dJ1_rotateRight_18 : decode cJ1_rotateRight 18 = .ok (.getfield 114, 3) := dk_180 0 114 (dk_at dksJ1_rotateRight_0 18 rfl rfl)
theorem dJ1_rotateRight_21 : decode cJ1_rotateRight 21 = .ok (.ifnull 11, 3) := dk_198 0 11 (dk_at dksJ1_rotateRight_0 21 rfl rfl)
theorem dJ1_rotateRight_24 : decode cJ1_rotateRight 24 = .ok (.aload_n 2, 1) := dk_44 (dk_at dksJ1_rotateRight_1 0 rfl rfl)
theorem dJ1_rotateRight_25 : decode cJ1_rotateRight 25 = .ok (.getfield 114, 3) := dk_180 0 114 (dk_at dksJ1_rotateRight_1 1 rfl rfl)
theorem dJ1_rotateRight_28 : decode cJ1_rotateRight 28 = .ok (.aload_n 1, 1) := dk_43 (dk_at dksJ1_rotateRight_1 4 rfl rfl)
theorem dJ1_rotateRight_29 : decode cJ1_rotateRight 29 = .ok (.putfield 124, 3) := dk_181 0 124 (dk_at dksJ1_rotateRight_1 5 rfl rfl)
theorem dJ1_rotateRight_32 : decode cJ1_rotateRight 32 = .ok (.aload_n 2, 1) := dk_44 (dk_at dksJ1_rotateRight_1 8 rfl rfl)
theorem dJ1_rotateRight_33 : decode cJ1_rotateRight 33 = .ok (.aload_n 1, 1) := dk_43 (dk_at dksJ1_rotateRight_1 9 rfl rfl)
theorem dJ1_rotateRight_34 : decode cJ1_rotateRight 34 = .ok (.getfield 124, 3) := dk_180 0 124 (dk_at dksJ1_rotateRight_1 10 rfl rfl)
theorem dJ1_rotateRight_37 : decode cJ1_rotateRight 37 = .ok (.putfield 124, 3) := dk_181 0 124 (dk_at dksJ1_rotateRight_1 13 rfl rfl)
theorem dJ1_rotateRight_40 : decode cJ1_rotateRight 40 = .ok (.aload_n 1, 1) := dk_43 (dk_at dksJ1_rotateRight_1 16 rfl rfl)
theorem dJ1_rotateRight_41 : decode cJ1_rotateRight 41 = .ok (.getfield 124, 3) := dk_180 0 124 (dk_at dksJ1_rotateRight_1 17 rfl rfl)
theorem dJ1_rotateRight_44 : decode cJ1_rotateRight 44 = .ok (.ifnonnull 11, 3) := dk_199 0 11 (dk_at dksJ1_rotateRight_1 20 rfl rfl)
theorem dJ1_rotateRight_47 : decode cJ1_rotateRight 47 = .ok (.aload_n 0, 1) := dk_42 (dk_at dksJ1_rotateRight_1 23 rfl rfl)
theorem dJ1_rotateRight_48 : decode cJ1_rotateRight 48 = .ok (.aload_n 2, 1) := dk_44 (dk_at dksJ1_rotateRight_2 0 rfl rfl)
theorem dJ1_rotateRight_49 : decode cJ1_rotateRight 49 = .ok (.putfield 101, 3) := dk_181 0 101 (dk_at dksJ1_rotateRight_2 1 rfl rfl)
theorem dJ1_rotateRight_52 : decode cJ1_rotateRight 52 = .ok (.goto 33, 3) := dk_167 0 33 (dk_at dksJ1_rotateRight_2 4 rfl rfl)
theorem dJ1_rotateRight_55 : decode cJ1_rotateRight 55 = .ok (.aload_n 1, 1) := dk_43 (dk_at dksJ1_rotateRight_2 7 rfl rfl)
theorem dJ1_rotateRight_56 : decode cJ1_rotateRight 56 = .ok (.getfield 124, 3) := dk_180 0 124 (dk_at dksJ1_rotateRight_2 8 rfl rfl)
theorem dJ1_rotateRight_59 : decode cJ1_rotateRight 59 = .ok (.getfield 114, 3) := dk_180 0 114 (dk_at dksJ1_rotateRight_2 11 rfl rfl)
theorem dJ1_rotateRight_62 : decode cJ1_rotateRight 62 = .ok (.aload_n 1, 1) := dk_43 (dk_at dksJ1_rotateRight_2 14 rfl rfl)
theorem dJ1_rotateRight_63 : decode cJ1_rotateRight 63 = .ok (.if_acmp .ne 14, 3) := dk_166 0 14 (dk_at dksJ1_rotateRight_2 15 rfl rfl)
theorem dJ1_rotateRight_66 : decode cJ1_rotateRight 66 = .ok (.aload_n 1, 1) := dk_43 (dk_at dksJ1_rotateRight_2 18 rfl rfl)
theorem dJ1_rotateRight_67 : decode cJ1_rotateRight 67 = .ok (.getfield 124, 3) := dk_180 0 124 (dk_at dksJ1_rotateRight_2 19 rfl rfl)
theorem dJ1_rotateRight_70 : decode cJ1_rotateRight 70 = .ok (.aload_n 2, 1) := dk_44 (dk_at dksJ1_rotateRight_2 22 rfl rfl)
theorem dJ1_rotateRight_71 : decode cJ1_rotateRight 71 = .ok (.putfield 114, 3) := dk_181 0 114 (dk_at dksJ1_rotateRight_3 0 rfl rfl)
theorem dJ1_rotateRight_74 : decode cJ1_rotateRight 74 = .ok (.goto 11, 3) := dk_167 0 11 (dk_at dksJ1_rotateRight_3 3 rfl rfl)
theorem dJ1_rotateRight_77 : decode cJ1_rotateRight 77 = .ok (.aload_n 1, 1) := dk_43 (dk_at dksJ1_rotateRight_3 6 rfl rfl)
theorem dJ1_rotateRight_78 : decode cJ1_rotateRight 78 = .ok (.getfield 124, 3) := dk_180 0 124 (dk_at dksJ1_rotateRight_3 7 rfl rfl)
theorem dJ1_rotateRight_81 : decode cJ1_rotateRight 81 = .ok (.aload_n 2, 1) := dk_44 (dk_at dksJ1_rotateRight_3 10 rfl rfl)
theorem dJ1_rotateRight_82 : decode cJ1_rotateRight 82 = .ok (.putfield 111, 3) := dk_181 0 111 (dk_at dksJ1_rotateRight_3 11 rfl rfl)
theorem dJ1_rotateRight_85 : decode cJ1_rotateRight 85 = .ok (.aload_n 2, 1) := dk_44 (dk_at dksJ1_rotateRight_3 14 rfl rfl)
theorem dJ1_rotateRight_86 : decode cJ1_rotateRight 86 = .ok (.aload_n 1, 1) := dk_43 (dk_at dksJ1_rotateRight_3 15 rfl rfl)
theorem dJ1_rotateRight_87 : decode cJ1_rotateRight 87 = .ok (.putfield 114, 3) := dk_181 0 114 (dk_at dksJ1_rotateRight_3 16 rfl rfl)
theorem dJ1_rotateRight_90 : decode cJ1_rotateRight 90 = .ok (.aload_n 1, 1) := dk_43 (dk_at dksJ1_rotateRight_3 19 rfl rfl)
theorem dJ1_rotateRight_91 : decode cJ1_rotateRight 91 = .ok (.aload_n 2, 1) := dk_44 (dk_at dksJ1_rotateRight_3 20 rfl rfl)
theorem dJ1_rotateRight_92 : decode cJ1_rotateRight 92 = .ok (.putfield 124, 3) := dk_181 0 124 (dk_at dksJ1_rotateRight_3 21 rfl rfl)
theorem dJ1_rotateRight_95 : decode cJ1_rotateRight 95 = .ok (.return_, 1) := dk_177 (dk_at dksJ1_rotateRight_4 0 rfl rfl)
abbrev cJ1_putAll : ByteArray := prog_81_method_14_code
def yJ1_putAll : MethodName := ⟨RJ1, "putAll", "(Ljava/util/Map;)V"⟩
def dkwJ1_putAll_3 : List UInt8 := [182, 0, 42, 167, 0, 4, 78, 177, 42, 43, 183, 0, 91, 177]
abbrev dktJ1_putAll_3 : List UInt8 := dkwJ1_putAll_3 ++ []
def dkwJ1_putAll_2 : List UInt8 := [180, 0, 13, 4, 96, 181, 0, 13, 42, 28, 43, 185, 0, 90, 1, 0, 185, 0, 36, 1, 0, 1, 1]
abbrev dktJ1_putAll_2 : List UInt8 := dkwJ1_putAll_2 ++ dktJ1_putAll_3
def dkwJ1_putAll_1 : List UInt8 := [153, 0, 55, 42, 180, 0, 16, 43, 192, 0, 25, 185, 0, 24, 1, 0, 184, 0, 85, 153, 0, 36, 42, 89]
abbrev dktJ1_putAll_1 : List UInt8 := dkwJ1_putAll_1 ++ dktJ1_putAll_2
def dkwJ1_putAll_0 : List UInt8 := [43, 185, 0, 82, 1, 0, 61, 42, 180, 0, 7, 154, 0, 66, 28, 153, 0, 62, 43, 193, 0, 25]
abbrev dktJ1_putAll_0 : List UInt8 := dkwJ1_putAll_0 ++ dktJ1_putAll_1
theorem dksJ1_putAll_0 : cJ1_putAll.data.toList.drop 0 = dktJ1_putAll_0 := by decide +kernel
theorem dksJ1_putAll_1 : cJ1_putAll.data.toList.drop 22 = dktJ1_putAll_1 := dk_seg dksJ1_putAll_0 22 rfl rfl
theorem dksJ1_putAll_2 : cJ1_putAll.data.toList.drop 46 = dktJ1_putAll_2 := dk_seg dksJ1_putAll_1 24 rfl rfl
theorem dksJ1_putAll_3 : cJ1_putAll.data.toList.drop 69 = dktJ1_putAll_3 := dk_seg dksJ1_putAll_2 23 rfl rfl
theorem dJ1_putAll_0 : decode cJ1_putAll 0 = .ok (.aload_n 1, 1) := dk_43 (dk_at dksJ1_putAll_0 0 rfl rfl)
theorem dJ1_putAll_1 : decode cJ1_putAll 1 = .ok (.invokeinterface 82 1, 5) := by decide +kernel
theorem dJ1_putAll_6 : decode cJ1_putAll 6 = .ok (.istore_n 2, 1) := dk_61 (dk_at dksJ1_putAll_0 6 rfl rfl)
theorem dJ1_putAll_7 : decode cJ1_putAll 7 = .ok (.aload_n 0, 1) := dk_42 (dk_at dksJ1_putAll_0 7 rfl rfl)
theorem dJ1_putAll_8 : decode cJ1_putAll 8 = .ok (.getfield 7, 3) := dk_180 0 7 (dk_at dksJ1_putAll_0 8 rfl rfl)
theorem dJ1_putAll_11 : decode cJ1_putAll 11 = .ok (.ifCond .ne 66, 3) := dk_154 0 66 (dk_at dksJ1_putAll_0 11 rfl rfl)
theorem dJ1_putAll_14 : decode cJ1_putAll 14 = .ok (.iload_n 2, 1) := dk_28 (dk_at dksJ1_putAll_0 14 rfl rfl)
theorem dJ1_putAll_15 : decode cJ1_putAll 15 = .ok (.ifCond .eq 62, 3) := dk_153 0 62 (dk_at dksJ1_putAll_0 15 rfl rfl)
theorem dJ1_putAll_18 : decode cJ1_putAll 18 = .ok (.aload_n 1, 1) := dk_43 (dk_at dksJ1_putAll_0 18 rfl rfl)
theorem dJ1_putAll_19 : decode cJ1_putAll 19 = .ok (.instanceof 25, 3) := dk_193 0 25 (dk_at dksJ1_putAll_0 19 rfl rfl)
theorem dJ1_putAll_22 : decode cJ1_putAll 22 = .ok (.ifCond .eq 55, 3) := dk_153 0 55 (dk_at dksJ1_putAll_1 0 rfl rfl)
theorem dJ1_putAll_25 : decode cJ1_putAll 25 = .ok (.aload_n 0, 1) := dk_42 (dk_at dksJ1_putAll_1 3 rfl rfl)
theorem dJ1_putAll_26 : decode cJ1_putAll 26 = .ok (.getfield 16, 3) := dk_180 0 16 (dk_at dksJ1_putAll_1 4 rfl rfl)
theorem dJ1_putAll_29 : decode cJ1_putAll 29 = .ok (.aload_n 1, 1) := dk_43 (dk_at dksJ1_putAll_1 7 rfl rfl)
theorem dJ1_putAll_30 : decode cJ1_putAll 30 = .ok (.checkcast 25, 3) := dk_192 0 25 (dk_at dksJ1_putAll_1 8 rfl rfl)
theorem dJ1_putAll_33 : decode cJ1_putAll 33 = .ok (.invokeinterface 24 1, 5) := by decide +kernel
theorem dJ1_putAll_38 : decode cJ1_putAll 38 = .ok (.invokestatic 85, 3) := dk_184 0 85 (dk_at dksJ1_putAll_1 16 rfl rfl)
theorem dJ1_putAll_41 : decode cJ1_putAll 41 = .ok (.ifCond .eq 36, 3) := dk_153 0 36 (dk_at dksJ1_putAll_1 19 rfl rfl)
theorem dJ1_putAll_44 : decode cJ1_putAll 44 = .ok (.aload_n 0, 1) := dk_42 (dk_at dksJ1_putAll_1 22 rfl rfl)
theorem dJ1_putAll_45 : decode cJ1_putAll 45 = .ok (.dup, 1) := dk_89 (dk_at dksJ1_putAll_1 23 rfl rfl)
theorem dJ1_putAll_46 : decode cJ1_putAll 46 = .ok (.getfield 13, 3) := dk_180 0 13 (dk_at dksJ1_putAll_2 0 rfl rfl)
theorem dJ1_putAll_49 : decode cJ1_putAll 49 = .ok (.iconst 1, 1) := dk_4 (dk_at dksJ1_putAll_2 3 rfl rfl)
theorem dJ1_putAll_50 : decode cJ1_putAll 50 = .ok (.iadd, 1) := dk_96 (dk_at dksJ1_putAll_2 4 rfl rfl)
theorem dJ1_putAll_51 : decode cJ1_putAll 51 = .ok (.putfield 13, 3) := dk_181 0 13 (dk_at dksJ1_putAll_2 5 rfl rfl)
theorem dJ1_putAll_54 : decode cJ1_putAll 54 = .ok (.aload_n 0, 1) := dk_42 (dk_at dksJ1_putAll_2 8 rfl rfl)
theorem dJ1_putAll_55 : decode cJ1_putAll 55 = .ok (.iload_n 2, 1) := dk_28 (dk_at dksJ1_putAll_2 9 rfl rfl)
theorem dJ1_putAll_56 : decode cJ1_putAll 56 = .ok (.aload_n 1, 1) := dk_43 (dk_at dksJ1_putAll_2 10 rfl rfl)
theorem dJ1_putAll_57 : decode cJ1_putAll 57 = .ok (.invokeinterface 90 1, 5) := by decide +kernel
theorem dJ1_putAll_62 : decode cJ1_putAll 62 = .ok (.invokeinterface 36 1, 5) := by decide +kernel
theorem dJ1_putAll_67 : decode cJ1_putAll 67 = .ok (.aconst_null, 1) := dk_1 (dk_at dksJ1_putAll_2 21 rfl rfl)
theorem dJ1_putAll_68 : decode cJ1_putAll 68 = .ok (.aconst_null, 1) := dk_1 (dk_at dksJ1_putAll_2 22 rfl rfl)
theorem dJ1_putAll_69 : decode cJ1_putAll 69 = .ok (.invokevirtual 42, 3) := dk_182 0 42 (dk_at dksJ1_putAll_3 0 rfl rfl)
theorem dJ1_putAll_72 : decode cJ1_putAll 72 = .ok (.goto 4, 3) := dk_167 0 4 (dk_at dksJ1_putAll_3 3 rfl rfl)
theorem dJ1_putAll_75 : decode cJ1_putAll 75 = .ok (.astore_n 3, 1) := dk_78 (dk_at dksJ1_putAll_3 6 rfl rfl)
theorem dJ1_putAll_76 : decode cJ1_putAll 76 = .ok (.return_, 1) := dk_177 (dk_at dksJ1_putAll_3 7 rfl rfl)
theorem dJ1_putAll_77 : decode cJ1_putAll 77 = .ok (.aload_n 0, 1) := dk_42 (dk_at dksJ1_putAll_3 8 rfl rfl)
theorem dJ1_putAll_78 : decode cJ1_putAll 78 = .ok (.aload_n 1, 1) := dk_43 (dk_at dksJ1_putAll_3 9 rfl rfl)
theorem dJ1_putAll_79 : decode cJ1_putAll 79 = .ok (.invokespecial 91, 3) := dk_183 0 91 (dk_at dksJ1_putAll_3 10 rfl rfl)
theorem dJ1_putAll_82 : decode cJ1_putAll 82 = .ok (.return_, 1) := dk_177 (dk_at dksJ1_putAll_3 13 rfl rfl)
abbrev cJ1_size : ByteArray := prog_81_method_5_code
def yJ1_size : MethodName := ⟨RJ1, "size", "()I"⟩
theorem dJ1_size_0 : decode cJ1_size 0 = .ok (.aload_n 0, 1) := by decide +kernel
theorem dJ1_size_1 : decode cJ1_size 1 = .ok (.getfield 7, 3) := by decide +kernel
theorem dJ1_size_4 : decode cJ1_size 4 = .ok (.ireturn, 1) := by decide +kernel
abbrev cJ1_comparator : ByteArray := prog_81_method_9_code
def yJ1_comparator : MethodName := ⟨RJ1, "comparator", "()Ljava/util/Comparator;"⟩
theorem dJ1_comparator_0 : decode cJ1_comparator 0 = .ok (.aload_n 0, 1) := by decide +kernel
theorem dJ1_comparator_1 : decode cJ1_comparator 1 = .ok (.getfield 16, 3) := by decide +kernel
theorem dJ1_comparator_4 : decode cJ1_comparator 4 = .ok (.areturn, 1) := by decide +kernel
abbrev cJ1_entrySet : ByteArray := prog_81_method_53_code
def yJ1_entrySet : MethodName := ⟨RJ1, "entrySet", "()Ljava/util/Set;"⟩
def dkwJ1_entrySet_1 : List UInt8 := [181, 0, 188, 176]
abbrev dktJ1_entrySet_1 : List UInt8 := dkwJ1_entrySet_1 ++ []
def dkwJ1_entrySet_0 : List UInt8 := [42, 180, 0, 188, 76, 43, 198, 0, 7, 43, 167, 0, 16, 42, 187, 0, 242, 89, 42, 183, 0, 244, 90]
abbrev dktJ1_entrySet_0 : List UInt8 := dkwJ1_entrySet_0 ++ dktJ1_entrySet_1
theorem dksJ1_entrySet_0 : cJ1_entrySet.data.toList.drop 0 = dktJ1_entrySet_0 := by decide +kernel
theorem dksJ1_entrySet_1 : cJ1_entrySet.data.toList.drop 23 = dktJ1_entrySet_1 := dk_seg dksJ1_entrySet_0 23 rfl rfl
theorem dJ1_entrySet_0 : decode cJ1_entrySet 0 = .ok (.aload_n 0, 1) := dk_42 (dk_at dksJ1_entrySet_0 0 rfl rfl)
theorem dJ1_entrySet_1 : decode cJ1_entrySet 1 = .ok (.getfield 188, 3) := dk_180 0 188 (dk_at dksJ1_entrySet_0 1 rfl rfl)
theorem dJ1_entrySet_4 : decode cJ1_entrySet 4 = .ok (.astore_n 1, 1) := dk_76 (dk_at dksJ1_entrySet_0 4 rfl rfl)
theorem dJ1_entrySet_5 : decode cJ1_entrySet 5 = .ok (.aload_n 1, 1) := dk_43 (dk_at dksJ1_entrySet_0 5 rfl rfl)
theorem dJ1_entrySet_6 : decode cJ1_entrySet 6 = .ok (.ifnull 7, 3) := dk_198 0 7 (dk_at dksJ1_entrySet_0 6 rfl rfl)
theorem dJ1_entrySet_9 : decode cJ1_entrySet 9 = .ok (.aload_n 1, 1) := dk_43 (dk_at dksJ1_entrySet_0 9 rfl rfl)
theorem dJ1_entrySet_10 : decode cJ1_entrySet 10 = .ok (.goto 16, 3) := dk_167 0 16 (dk_at dksJ1_entrySet_0 10 rfl rfl)
theorem dJ1_entrySet_13 : decode cJ1_entrySet 13 = .ok (.aload_n 0, 1) := dk_42 (dk_at dksJ1_entrySet_0 13 rfl rfl)
theorem dJ1_entrySet_14 : decode cJ1_entrySet 14 = .ok (.new 242, 3) := dk_187 0 242 (dk_at dksJ1_entrySet_0 14 rfl rfl)
theorem dJ1_entrySet_17 : decode cJ1_entrySet 17 = .ok (.dup, 1) := dk_89 (dk_at dksJ1_entrySet_0 17 rfl rfl)
theorem dJ1_entrySet_18 : decode cJ1_entrySet 18 = .ok (.aload_n 0, 1) := dk_42 (dk_at dksJ1_entrySet_0 18 rfl rfl)
theorem dJ1_entrySet_19 : decode cJ1_entrySet 19 = .ok (.invokespecial 244, 3) := dk_183 0 244 (dk_at dksJ1_entrySet_0 19 rfl rfl)
theorem dJ1_entrySet_22 : decode cJ1_entrySet 22 = .ok (.dup_x1, 1) := dk_90 (dk_at dksJ1_entrySet_0 22 rfl rfl)
theorem dJ1_entrySet_23 : decode cJ1_entrySet 23 = .ok (.putfield 188, 3) := dk_181 0 188 (dk_at dksJ1_entrySet_1 0 rfl rfl)
theorem dJ1_entrySet_26 : decode cJ1_entrySet 26 = .ok (.areturn, 1) := dk_176 (dk_at dksJ1_entrySet_1 3 rfl rfl)
abbrev cJ1_getFirstEntry : ByteArray := prog_81_method_72_code
def yJ1_getFirstEntry : MethodName := ⟨RJ1, "getFirstEntry", "()Ljava/util/TreeMap$Entry;"⟩
def dkwJ1_getFirstEntry_1 : List UInt8 := [43, 176]
abbrev dktJ1_getFirstEntry_1 : List UInt8 := dkwJ1_getFirstEntry_1 ++ []
def dkwJ1_getFirstEntry_0 : List UInt8 := [42, 180, 0, 101, 76, 43, 198, 0, 18, 43, 180, 0, 111, 198, 0, 11, 43, 180, 0, 111, 76, 167, 255, 244]
abbrev dktJ1_getFirstEntry_0 : List UInt8 := dkwJ1_getFirstEntry_0 ++ dktJ1_getFirstEntry_1
theorem dksJ1_getFirstEntry_0 : cJ1_getFirstEntry.data.toList.drop 0 = dktJ1_getFirstEntry_0 := by decide +kernel
theorem dksJ1_getFirstEntry_1 : cJ1_getFirstEntry.data.toList.drop 24 = dktJ1_getFirstEntry_1 := dk_seg dksJ1_getFirstEntry_0 24 rfl rfl
theorem dJ1_getFirstEntry_0 : decode cJ1_getFirstEntry 0 = .ok (.aload_n 0, 1) := dk_42 (dk_at dksJ1_getFirstEntry_0 0 rfl rfl)
theorem dJ1_getFirstEntry_1 : decode cJ1_getFirstEntry 1 = .ok (.getfield 101, 3) := dk_180 0 101 (dk_at dksJ1_getFirstEntry_0 1 rfl rfl)
theorem dJ1_getFirstEntry_4 : decode cJ1_getFirstEntry 4 = .ok (.astore_n 1, 1) := dk_76 (dk_at dksJ1_getFirstEntry_0 4 rfl rfl)
theorem dJ1_getFirstEntry_5 : decode cJ1_getFirstEntry 5 = .ok (.aload_n 1, 1) := dk_43 (dk_at dksJ1_getFirstEntry_0 5 rfl rfl)
theorem dJ1_getFirstEntry_6 : decode cJ1_getFirstEntry 6 = .ok (.ifnull 18, 3) := dk_198 0 18 (dk_at dksJ1_getFirstEntry_0 6 rfl rfl)
theorem dJ1_getFirstEntry_9 : decode cJ1_getFirstEntry 9 = .ok (.aload_n 1, 1) := dk_43 (dk_at dksJ1_getFirstEntry_0 9 rfl rfl)
theorem dJ1_getFirstEntry_10 : decode cJ1_getFirstEntry 10 = .ok (.getfield 111, 3) := dk_180 0 111 (dk_at dksJ1_getFirstEntry_0 10 rfl rfl)
theorem dJ1_getFirstEntry_13 : decode cJ1_getFirstEntry 13 = .ok (.ifnull 11, 3) := dk_198 0 11 (dk_at dksJ1_getFirstEntry_0 13 rfl rfl)
theorem dJ1_getFirstEntry_16 : decode cJ1_getFirstEntry 16 = .ok (.aload_n 1, 1) := dk_43 (dk_at dksJ1_getFirstEntry_0 16 rfl rfl)
theorem dJ1_getFirstEntry_17 : decode cJ1_getFirstEntry 17 = .ok (.getfield 111, 3) := dk_180 0 111 (dk_at dksJ1_getFirstEntry_0 17 rfl rfl)
theorem dJ1_getFirstEntry_20 : decode cJ1_getFirstEntry 20 = .ok (.astore_n 1, 1) := dk_76 (dk_at dksJ1_getFirstEntry_0 20 rfl rfl)
theorem dJ1_getFirstEntry_21 : decode cJ1_getFirstEntry 21 = .ok (.goto (-12), 3) := dk_167 255 244 (dk_at dksJ1_getFirstEntry_0 21 rfl rfl)
theorem dJ1_getFirstEntry_24 : decode cJ1_getFirstEntry 24 = .ok (.aload_n 1, 1) := dk_43 (dk_at dksJ1_getFirstEntry_1 0 rfl rfl)
theorem dJ1_getFirstEntry_25 : decode cJ1_getFirstEntry 25 = .ok (.areturn, 1) := dk_176 (dk_at dksJ1_getFirstEntry_1 1 rfl rfl)
abbrev cJ1_keyIterator : ByteArray := prog_81_method_65_code
def yJ1_keyIterator : MethodName := ⟨RJ1, "keyIterator", "()Ljava/util/Iterator;"⟩
def dkwJ1_keyIterator_0 : List UInt8 := [187, 1, 13, 89, 42, 42, 182, 0, 54, 183, 1, 15, 176]
abbrev dktJ1_keyIterator_0 : List UInt8 := dkwJ1_keyIterator_0 ++ []
theorem dksJ1_keyIterator_0 : cJ1_keyIterator.data.toList.drop 0 = dktJ1_keyIterator_0 := by decide +kernel
theorem dJ1_keyIterator_0 : decode cJ1_keyIterator 0 = .ok (.new 269, 3) := dk_187 1 13 (dk_at dksJ1_keyIterator_0 0 rfl rfl)
theorem dJ1_keyIterator_3 : decode cJ1_keyIterator 3 = .ok (.dup, 1) := dk_89 (dk_at dksJ1_keyIterator_0 3 rfl rfl)
theorem dJ1_keyIterator_4 : decode cJ1_keyIterator 4 = .ok (.aload_n 0, 1) := dk_42 (dk_at dksJ1_keyIterator_0 4 rfl rfl)
theorem dJ1_keyIterator_5 : decode cJ1_keyIterator 5 = .ok (.aload_n 0, 1) := dk_42 (dk_at dksJ1_keyIterator_0 5 rfl rfl)
theorem dJ1_keyIterator_6 : decode cJ1_keyIterator 6 = .ok (.invokevirtual 54, 3) := dk_182 0 54 (dk_at dksJ1_keyIterator_0 6 rfl rfl)
theorem dJ1_keyIterator_9 : decode cJ1_keyIterator 9 = .ok (.invokespecial 271, 3) := dk_183 1 15 (dk_at dksJ1_keyIterator_0 9 rfl rfl)
theorem dJ1_keyIterator_12 : decode cJ1_keyIterator 12 = .ok (.areturn, 1) := dk_176 (dk_at dksJ1_keyIterator_0 12 rfl rfl)
abbrev cJ1_navigableKeySet : ByteArray := prog_81_method_50_code
def yJ1_navigableKeySet : MethodName := ⟨RJ1, "navigableKeySet", "()Ljava/util/NavigableSet;"⟩
def dkwJ1_navigableKeySet_1 : List UInt8 := [181, 0, 191, 176]
abbrev dktJ1_navigableKeySet_1 : List UInt8 := dkwJ1_navigableKeySet_1 ++ []
def dkwJ1_navigableKeySet_0 : List UInt8 := [42, 180, 0, 191, 76, 43, 198, 0, 7, 43, 167, 0, 16, 42, 187, 0, 222, 89, 42, 183, 0, 224, 90]
abbrev dktJ1_navigableKeySet_0 : List UInt8 := dkwJ1_navigableKeySet_0 ++ dktJ1_navigableKeySet_1
theorem dksJ1_navigableKeySet_0 : cJ1_navigableKeySet.data.toList.drop 0 = dktJ1_navigableKeySet_0 := by decide +kernel
theorem dksJ1_navigableKeySet_1 : cJ1_navigableKeySet.data.toList.drop 23 = dktJ1_navigableKeySet_1 := dk_seg dksJ1_navigableKeySet_0 23 rfl rfl
theorem dJ1_navigableKeySet_0 : decode cJ1_navigableKeySet 0 = .ok (.aload_n 0, 1) := dk_42 (dk_at dksJ1_navigableKeySet_0 0 rfl rfl)
theorem dJ1_navigableKeySet_1 : decode cJ1_navigableKeySet 1 = .ok (.getfield 191, 3) := dk_180 0 191 (dk_at dksJ1_navigableKeySet_0 1 rfl rfl)
theorem dJ1_navigableKeySet_4 : decode cJ1_navigableKeySet 4 = .ok (.astore_n 1, 1) := dk_76 (dk_at dksJ1_navigableKeySet_0 4 rfl rfl)
theorem dJ1_navigableKeySet_5 : decode cJ1_navigableKeySet 5 = .ok (.aload_n 1, 1) := dk_43 (dk_at dksJ1_navigableKeySet_0 5 rfl rfl)
theorem dJ1_navigableKeySet_6 : decode cJ1_navigableKeySet 6 = .ok (.ifnull 7, 3) := dk_198 0 7 (dk_at dksJ1_navigableKeySet_0 6 rfl rfl)
theorem dJ1_navigableKeySet_9 : decode cJ1_navigableKeySet 9 = .ok (.aload_n 1, 1) := dk_43 (dk_at dksJ1_navigableKeySet_0 9 rfl rfl)
theorem dJ1_navigableKeySet_10 : decode cJ1_navigableKeySet 10 = .ok (.goto 16, 3) := dk_167 0 16 (dk_at dksJ1_navigableKeySet_0 10 rfl rfl)
theorem dJ1_navigableKeySet_13 : decode cJ1_navigableKeySet 13 = .ok (.aload_n 0, 1) := dk_42 (dk_at dksJ1_navigableKeySet_0 13 rfl rfl)
theorem dJ1_navigableKeySet_14 : decode cJ1_navigableKeySet 14 = .ok (.new 222, 3) := dk_187 0 222 (dk_at dksJ1_navigableKeySet_0 14 rfl rfl)
theorem dJ1_navigableKeySet_17 : decode cJ1_navigableKeySet 17 = .ok (.dup, 1) := dk_89 (dk_at dksJ1_navigableKeySet_0 17 rfl rfl)
theorem dJ1_navigableKeySet_18 : decode cJ1_navigableKeySet 18 = .ok (.aload_n 0, 1) := dk_42 (dk_at dksJ1_navigableKeySet_0 18 rfl rfl)
theorem dJ1_navigableKeySet_19 : decode cJ1_navigableKeySet 19 = .ok (.invokespecial 224, 3) := dk_183 0 224 (dk_at dksJ1_navigableKeySet_0 19 rfl rfl)
theorem dJ1_navigableKeySet_22 : decode cJ1_navigableKeySet 22 = .ok (.dup_x1, 1) := dk_90 (dk_at dksJ1_navigableKeySet_0 22 rfl rfl)
theorem dJ1_navigableKeySet_23 : decode cJ1_navigableKeySet 23 = .ok (.putfield 191, 3) := dk_181 0 191 (dk_at dksJ1_navigableKeySet_1 0 rfl rfl)
theorem dJ1_navigableKeySet_26 : decode cJ1_navigableKeySet 26 = .ok (.areturn, 1) := dk_176 (dk_at dksJ1_navigableKeySet_1 3 rfl rfl)
abbrev cJ1_buildFromSorted : ByteArray := prog_81_method_90_code
def yJ1_buildFromSorted : MethodName := ⟨RJ1, "buildFromSorted", "(ILjava/util/Iterator;Ljava/io/ObjectInputStream;Ljava/lang/Object;)V"⟩
def dkwJ1_buildFromSorted_1 : List UInt8 := [181, 0, 101, 177]
abbrev dktJ1_buildFromSorted_1 : List UInt8 := dkwJ1_buildFromSorted_1 ++ []
def dkwJ1_buildFromSorted_0 : List UInt8 := [42, 27, 181, 0, 7, 42, 42, 3, 3, 27, 4, 100, 27, 184, 1, 106, 44, 45, 25, 4, 182, 1, 110]
abbrev dktJ1_buildFromSorted_0 : List UInt8 := dkwJ1_buildFromSorted_0 ++ dktJ1_buildFromSorted_1
theorem dksJ1_buildFromSorted_0 : cJ1_buildFromSorted.data.toList.drop 0 = dktJ1_buildFromSorted_0 := by decide +kernel
theorem dksJ1_buildFromSorted_1 : cJ1_buildFromSorted.data.toList.drop 23 = dktJ1_buildFromSorted_1 := dk_seg dksJ1_buildFromSorted_0 23 rfl rfl
theorem dJ1_buildFromSorted_0 : decode cJ1_buildFromSorted 0 = .ok (.aload_n 0, 1) := dk_42 (dk_at dksJ1_buildFromSorted_0 0 rfl rfl)
theorem dJ1_buildFromSorted_1 : decode cJ1_buildFromSorted 1 = .ok (.iload_n 1, 1) := dk_27 (dk_at dksJ1_buildFromSorted_0 1 rfl rfl)
theorem dJ1_buildFromSorted_2 : decode cJ1_buildFromSorted 2 = .ok (.putfield 7, 3) := dk_181 0 7 (dk_at dksJ1_buildFromSorted_0 2 rfl rfl)
theorem dJ1_buildFromSorted_5 : decode cJ1_buildFromSorted 5 = .ok (.aload_n 0, 1) := dk_42 (dk_at dksJ1_buildFromSorted_0 5 rfl rfl)
theorem dJ1_buildFromSorted_6 : decode cJ1_buildFromSorted 6 = .ok (.aload_n 0, 1) := dk_42 (dk_at dksJ1_buildFromSorted_0 6 rfl rfl)
theorem dJ1_buildFromSorted_7 : decode cJ1_buildFromSorted 7 = .ok (.iconst 0, 1) := dk_3 (dk_at dksJ1_buildFromSorted_0 7 rfl rfl)
theorem dJ1_buildFromSorted_8 : decode cJ1_buildFromSorted 8 = .ok (.iconst 0, 1) := dk_3 (dk_at dksJ1_buildFromSorted_0 8 rfl rfl)
theorem dJ1_buildFromSorted_9 : decode cJ1_buildFromSorted 9 = .ok (.iload_n 1, 1) := dk_27 (dk_at dksJ1_buildFromSorted_0 9 rfl rfl)
theorem dJ1_buildFromSorted_10 : decode cJ1_buildFromSorted 10 = .ok (.iconst 1, 1) := dk_4 (dk_at dksJ1_buildFromSorted_0 10 rfl rfl)
theorem dJ1_buildFromSorted_11 : decode cJ1_buildFromSorted 11 = .ok (.isub, 1) := dk_100 (dk_at dksJ1_buildFromSorted_0 11 rfl rfl)
theorem dJ1_buildFromSorted_12 : decode cJ1_buildFromSorted 12 = .ok (.iload_n 1, 1) := dk_27 (dk_at dksJ1_buildFromSorted_0 12 rfl rfl)
theorem dJ1_buildFromSorted_13 : decode cJ1_buildFromSorted 13 = .ok (.invokestatic 362, 3) := dk_184 1 106 (dk_at dksJ1_buildFromSorted_0 13 rfl rfl)
theorem dJ1_buildFromSorted_16 : decode cJ1_buildFromSorted 16 = .ok (.aload_n 2, 1) := dk_44 (dk_at dksJ1_buildFromSorted_0 16 rfl rfl)
theorem dJ1_buildFromSorted_17 : decode cJ1_buildFromSorted 17 = .ok (.aload_n 3, 1) := dk_45 (dk_at dksJ1_buildFromSorted_0 17 rfl rfl)
theorem dJ1_buildFromSorted_18 : decode cJ1_buildFromSorted 18 = .ok (.aload 4, 2) := dk_25 4 (dk_at dksJ1_buildFromSorted_0 18 rfl rfl)
theorem dJ1_buildFromSorted_20 : decode cJ1_buildFromSorted 20 = .ok (.invokevirtual 366, 3) := dk_182 1 110 (dk_at dksJ1_buildFromSorted_0 20 rfl rfl)
theorem dJ1_buildFromSorted_23 : decode cJ1_buildFromSorted 23 = .ok (.putfield 101, 3) := dk_181 0 101 (dk_at dksJ1_buildFromSorted_1 0 rfl rfl)
theorem dJ1_buildFromSorted_26 : decode cJ1_buildFromSorted 26 = .ok (.return_, 1) := dk_177 (dk_at dksJ1_buildFromSorted_1 3 rfl rfl)
abbrev cJ1_computeRedLevel : ByteArray := prog_81_method_92_code
def yJ1_computeRedLevel : MethodName := ⟨RJ1, "computeRedLevel", "(I)I"⟩
def dkwJ1_computeRedLevel_0 : List UInt8 := [16, 31, 26, 4, 96, 184, 1, 116, 100, 172]
abbrev dktJ1_computeRedLevel_0 : List UInt8 := dkwJ1_computeRedLevel_0 ++ []
theorem dksJ1_computeRedLevel_0 : cJ1_computeRedLevel.data.toList.drop 0 = dktJ1_computeRedLevel_0 := by decide +kernel
theorem dJ1_computeRedLevel_0 : decode cJ1_computeRedLevel 0 = .ok (.bipush 31, 2) := dk_16 31 (dk_at dksJ1_computeRedLevel_0 0 rfl rfl)
theorem dJ1_computeRedLevel_2 : decode cJ1_computeRedLevel 2 = .ok (.iload_n 0, 1) := dk_26 (dk_at dksJ1_computeRedLevel_0 2 rfl rfl)
theorem dJ1_computeRedLevel_3 : decode cJ1_computeRedLevel 3 = .ok (.iconst 1, 1) := dk_4 (dk_at dksJ1_computeRedLevel_0 3 rfl rfl)
theorem dJ1_computeRedLevel_4 : decode cJ1_computeRedLevel 4 = .ok (.iadd, 1) := dk_96 (dk_at dksJ1_computeRedLevel_0 4 rfl rfl)
theorem dJ1_computeRedLevel_5 : decode cJ1_computeRedLevel 5 = .ok (.invokestatic 372, 3) := dk_184 1 116 (dk_at dksJ1_computeRedLevel_0 5 rfl rfl)
theorem dJ1_computeRedLevel_8 : decode cJ1_computeRedLevel 8 = .ok (.isub, 1) := dk_100 (dk_at dksJ1_computeRedLevel_0 8 rfl rfl)
theorem dJ1_computeRedLevel_9 : decode cJ1_computeRedLevel 9 = .ok (.ireturn, 1) := dk_172 (dk_at dksJ1_computeRedLevel_0 9 rfl rfl)
abbrev cJ1_buildFromSorted_2 : ByteArray := prog_81_method_91_code
def yJ1_buildFromSorted_2 : MethodName := ⟨RJ1, "buildFromSorted", "(IIIILjava/util/Iterator;Ljava/io/ObjectInputStream;Ljava/lang/Object;)Ljava/util/TreeMap$Entry;"⟩
def dkwJ1_buildFromSorted_2_9 : List UInt8 := [25, 13, 25, 12, 181, 0, 124, 25, 12, 176]
abbrev dktJ1_buildFromSorted_2_9 : List UInt8 := dkwJ1_buildFromSorted_2_9 ++ []
def dkwJ1_buildFromSorted_2_8 : List UInt8 := [4, 96, 29, 21, 4, 25, 5, 25, 6, 25, 7, 182, 1, 110, 58, 13, 25, 12, 25, 13, 181, 0, 114]
abbrev dktJ1_buildFromSorted_2_8 : List UInt8 := dkwJ1_buildFromSorted_2_8 ++ dktJ1_buildFromSorted_2_9
def dkwJ1_buildFromSorted_2_7 : List UInt8 := [25, 9, 181, 0, 111, 25, 9, 25, 12, 181, 0, 124, 21, 8, 29, 162, 0, 39, 42, 27, 4, 96, 21, 8]
abbrev dktJ1_buildFromSorted_2_7 : List UInt8 := dkwJ1_buildFromSorted_2_7 ++ dktJ1_buildFromSorted_2_8
def dkwJ1_buildFromSorted_2_6 : List UInt8 := [183, 0, 167, 58, 12, 27, 21, 4, 160, 0, 9, 25, 12, 3, 181, 1, 34, 25, 9, 198, 0, 17, 25, 12]
abbrev dktJ1_buildFromSorted_2_6 : List UInt8 := dkwJ1_buildFromSorted_2_6 ++ dktJ1_buildFromSorted_2_7
def dkwJ1_buildFromSorted_2_5 : List UInt8 := [198, 0, 8, 25, 7, 167, 0, 8, 25, 6, 182, 1, 113, 58, 11, 187, 0, 59, 89, 25, 10, 25, 11, 1]
abbrev dktJ1_buildFromSorted_2_5 : List UInt8 := dkwJ1_buildFromSorted_2_5 ++ dktJ1_buildFromSorted_2_6
def dkwJ1_buildFromSorted_2_4 : List UInt8 := [185, 1, 79, 1, 0, 58, 10, 25, 7, 58, 11, 167, 0, 27, 25, 6, 182, 1, 113, 58, 10, 25, 7]
abbrev dktJ1_buildFromSorted_2_4 : List UInt8 := dkwJ1_buildFromSorted_2_4 ++ dktJ1_buildFromSorted_2_5
def dkwJ1_buildFromSorted_2_3 : List UInt8 := [185, 1, 84, 1, 0, 58, 10, 25, 12, 185, 1, 91, 1, 0, 58, 11, 167, 0, 43, 25, 5]
abbrev dktJ1_buildFromSorted_2_3 : List UInt8 := dkwJ1_buildFromSorted_2_3 ++ dktJ1_buildFromSorted_2_4
def dkwJ1_buildFromSorted_2_2 : List UInt8 := [198, 0, 57, 25, 7, 199, 0, 36, 25, 5, 185, 1, 79, 1, 0, 192, 1, 82, 58, 12, 25, 12]
abbrev dktJ1_buildFromSorted_2_2 : List UInt8 := dkwJ1_buildFromSorted_2_2 ++ dktJ1_buildFromSorted_2_3
def dkwJ1_buildFromSorted_2_1 : List UInt8 := [27, 4, 96, 28, 21, 8, 4, 100, 21, 4, 25, 5, 25, 6, 25, 7, 182, 1, 110, 58, 9, 25, 5]
abbrev dktJ1_buildFromSorted_2_1 : List UInt8 := dkwJ1_buildFromSorted_2_1 ++ dktJ1_buildFromSorted_2_2
def dkwJ1_buildFromSorted_2_0 : List UInt8 := [29, 28, 162, 0, 5, 1, 176, 28, 29, 96, 4, 124, 54, 8, 1, 58, 9, 28, 21, 8, 162, 0, 25, 42]
abbrev dktJ1_buildFromSorted_2_0 : List UInt8 := dkwJ1_buildFromSorted_2_0 ++ dktJ1_buildFromSorted_2_1
theorem dksJ1_buildFromSorted_2_0 : cJ1_buildFromSorted_2.data.toList.drop 0 = dktJ1_buildFromSorted_2_0 := by decide +kernel
theorem dksJ1_buildFromSorted_2_1 : cJ1_buildFromSorted_2.data.toList.drop 24 = dktJ1_buildFromSorted_2_1 := dk_seg dksJ1_buildFromSorted_2_0 24 rfl rfl
theorem dksJ1_buildFromSorted_2_2 : cJ1_buildFromSorted_2.data.toList.drop 47 = dktJ1_buildFromSorted_2_2 := dk_seg dksJ1_buildFromSorted_2_1 23 rfl rfl
theorem dksJ1_buildFromSorted_2_3 : cJ1_buildFromSorted_2.data.toList.drop 69 = dktJ1_buildFromSorted_2_3 := dk_seg dksJ1_buildFromSorted_2_2 22 rfl rfl
theorem dksJ1_buildFromSorted_2_4 : cJ1_buildFromSorted_2.data.toList.drop 90 = dktJ1_buildFromSorted_2_4 := dk_seg dksJ1_buildFromSorted_2_3 21 rfl rfl
theorem dksJ1_buildFromSorted_2_5 : cJ1_buildFromSorted_2.data.toList.drop 113 = dktJ1_buildFromSorted_2_5 := dk_seg dksJ1_buildFromSorted_2_4 23 rfl rfl
theorem dksJ1_buildFromSorted_2_6 : cJ1_buildFromSorted_2.data.toList.drop 137 = dktJ1_buildFromSorted_2_6 := dk_seg dksJ1_buildFromSorted_2_5 24 rfl rfl
theorem dksJ1_buildFromSorted_2_7 : cJ1_buildFromSorted_2.data.toList.drop 161 = dktJ1_buildFromSorted_2_7 := dk_seg dksJ1_buildFromSorted_2_6 24 rfl rfl
theorem dksJ1_buildFromSorted_2_8 : cJ1_buildFromSorted_2.data.toList.drop 185 = dktJ1_buildFromSorted_2_8 := dk_seg dksJ1_buildFromSorted_2_7 24 rfl rfl
theorem dksJ1_buildFromSorted_2_9 : cJ1_buildFromSorted_2.data.toList.drop 208 = dktJ1_buildFromSorted_2_9 := dk_seg dksJ1_buildFromSorted_2_8 23 rfl rfl
theorem dJ1_buildFromSorted_2_0 : decode cJ1_buildFromSorted_2 0 = .ok (.iload_n 3, 1) := dk_29 (dk_at dksJ1_buildFromSorted_2_0 0 rfl rfl)
theorem dJ1_buildFromSorted_2_1 : decode cJ1_buildFromSorted_2 1 = .ok (.iload_n 2, 1) := dk_28 (dk_at dksJ1_buildFromSorted_2_0 1 rfl rfl)
theorem dJ1_buildFromSorted_2_2 : decode cJ1_buildFromSorted_2 2 = .ok (.if_icmp .ge 5, 3) := dk_162 0 5 (dk_at dksJ1_buildFromSorted_2_0 2 rfl rfl)
theorem dJ1_buildFromSorted_2_5 : decode cJ1_buildFromSorted_2 5 = .ok (.aconst_null, 1) := dk_1 (dk_at dksJ1_buildFromSorted_2_0 5 rfl rfl)
theorem dJ1_buildFromSorted_2_6 : decode cJ1_buildFromSorted_2 6 = .ok (.areturn, 1) := dk_176 (dk_at dksJ1_buildFromSorted_2_0 6 rfl rfl)
theorem dJ1_buildFromSorted_2_7 : decode cJ1_buildFromSorted_2 7 = .ok (.iload_n 2, 1) := dk_28 (dk_at dksJ1_buildFromSorted_2_0 7 rfl rfl)
theorem dJ1_buildFromSorted_2_8 : decode cJ1_buildFromSorted_2 8 = .ok (.iload_n 3, 1) := dk_29 (dk_at dksJ1_buildFromSorted_2_0 8 rfl rfl)
theorem dJ1_buildFromSorted_2_9 : decode cJ1_buildFromSorted_2 9 = .ok (.iadd, 1) := dk_96 (dk_at dksJ1_buildFromSorted_2_0 9 rfl rfl)
theorem dJ1_buildFromSorted_2_10 : decode cJ1_buildFromSorted_2 10 = .ok (.iconst 1, 1) := dk_4 (dk_at dksJ1_buildFromSorted_2_0 10 rfl rfl)
theorem dJ1_buildFromSorted_2_11 : decode cJ1_buildFromSorted_2 11 = .ok (.iushr, 1) := dk_124 (dk_at dksJ1_buildFromSorted_2_0 11 rfl rfl)
theorem dJ1_buildFromSorted_2_12 : decode cJ1_buildFromSorted_2 12 = .ok (.istore 8, 2) := dk_54 8 (dk_at dksJ1_buildFromSorted_2_0 12 rfl rfl)
theorem dJ1_buildFromSorted_2_14 : decode cJ1_buildFromSorted_2 14 = .ok (.aconst_null, 1) := dk_1 (dk_at dksJ1_buildFromSorted_2_0 14 rfl rfl)
theorem dJ1_buildFromSorted_2_15 : decode cJ1_buildFromSorted_2 15 = .ok (.astore 9, 2) := dk_58 9 (dk_at dksJ1_buildFromSorted_2_0 15 rfl rfl)
theorem dJ1_buildFromSorted_2_17 : decode cJ1_buildFromSorted_2 17 = .ok (.iload_n 2, 1) := dk_28 (dk_at dksJ1_buildFromSorted_2_0 17 rfl rfl)
theorem dJ1_buildFromSorted_2_18 : decode cJ1_buildFromSorted_2 18 = .ok (.iload 8, 2) := dk_21 8 (dk_at dksJ1_buildFromSorted_2_0 18 rfl rfl)
theorem dJ1_buildFromSorted_2_20 : decode cJ1_buildFromSorted_2 20 = .ok (.if_icmp .ge 25, 3) := dk_162 0 25 (dk_at dksJ1_buildFromSorted_2_0 20 rfl rfl)
theorem dJ1_buildFromSorted_2_23 : decode cJ1_buildFromSorted_2 23 = .ok (.aload_n 0, 1) := dk_42 (dk_at dksJ1_buildFromSorted_2_0 23 rfl rfl)
theorem dJ1_buildFromSorted_2_24 : decode cJ1_buildFromSorted_2 24 = .ok (.iload_n 1, 1) := dk_27 (dk_at dksJ1_buildFromSorted_2_1 0 rfl rfl)
theorem dJ1_buildFromSorted_2_25 : decode cJ1_buildFromSorted_2 25 = .ok (.iconst 1, 1) := dk_4 (dk_at dksJ1_buildFromSorted_2_1 1 rfl rfl)
theorem dJ1_buildFromSorted_2_26 : decode cJ1_buildFromSorted_2 26 = .ok (.iadd, 1) := dk_96 (dk_at dksJ1_buildFromSorted_2_1 2 rfl rfl)
theorem dJ1_buildFromSorted_2_27 : decode cJ1_buildFromSorted_2 27 = .ok (.iload_n 2, 1) := dk_28 (dk_at dksJ1_buildFromSorted_2_1 3 rfl rfl)
theorem dJ1_buildFromSorted_2_28 : decode cJ1_buildFromSorted_2 28 = .ok (.iload 8, 2) := dk_21 8 (dk_at dksJ1_buildFromSorted_2_1 4 rfl rfl)
theorem dJ1_buildFromSorted_2_30 : decode cJ1_buildFromSorted_2 30 = .ok (.iconst 1, 1) := dk_4 (dk_at dksJ1_buildFromSorted_2_1 6 rfl rfl)
theorem dJ1_buildFromSorted_2_31 : decode cJ1_buildFromSorted_2 31 = .ok (.isub, 1) := dk_100 (dk_at dksJ1_buildFromSorted_2_1 7 rfl rfl)
theorem dJ1_buildFromSorted_2_32 : decode cJ1_buildFromSorted_2 32 = .ok (.iload 4, 2) := dk_21 4 (dk_at dksJ1_buildFromSorted_2_1 8 rfl rfl)
theorem dJ1_buildFromSorted_2_34 : decode cJ1_buildFromSorted_2 34 = .ok (.aload 5, 2) := dk_25 5 (dk_at dksJ1_buildFromSorted_2_1 10 rfl rfl)
theorem dJ1_buildFromSorted_2_36 : decode cJ1_buildFromSorted_2 36 = .ok (.aload 6, 2) := dk_25 6 (dk_at dksJ1_buildFromSorted_2_1 12 rfl rfl)
theorem dJ1_buildFromSorted_2_38 : decode cJ1_buildFromSorted_2 38 = .ok (.aload 7, 2) := dk_25 7 (dk_at dksJ1_buildFromSorted_2_1 14 rfl rfl)
theorem dJ1_buildFromSorted_2_40 : decode cJ1_buildFromSorted_2 40 = .ok (.invokevirtual 366, 3) := dk_182 1 110 (dk_at dksJ1_buildFromSorted_2_1 16 rfl rfl)
theorem dJ1_buildFromSorted_2_43 : decode cJ1_buildFromSorted_2 43 = .ok (.astore 9, 2) := dk_58 9 (dk_at dksJ1_buildFromSorted_2_1 19 rfl rfl)
theorem dJ1_buildFromSorted_2_45 : decode cJ1_buildFromSorted_2 45 = .ok (.aload 5, 2) := dk_25 5 (dk_at dksJ1_buildFromSorted_2_1 21 rfl rfl)
theorem dJ1_buildFromSorted_2_47 : decode cJ1_buildFromSorted_2 47 = .ok (.ifnull 57, 3) := dk_198 0 57 (dk_at dksJ1_buildFromSorted_2_2 0 rfl rfl)
theorem dJ1_buildFromSorted_2_50 : decode cJ1_buildFromSorted_2 50 = .ok (.aload 7, 2) := dk_25 7 (dk_at dksJ1_buildFromSorted_2_2 3 rfl rfl)
theorem dJ1_buildFromSorted_2_52 : decode cJ1_buildFromSorted_2 52 = .ok (.ifnonnull 36, 3) := dk_199 0 36 (dk_at dksJ1_buildFromSorted_2_2 5 rfl rfl)
theorem dJ1_buildFromSorted_2_55 : decode cJ1_buildFromSorted_2 55 = .ok (.aload 5, 2) := dk_25 5 (dk_at dksJ1_buildFromSorted_2_2 8 rfl rfl)
theorem dJ1_buildFromSorted_2_57 : decode cJ1_buildFromSorted_2 57 = .ok (.invokeinterface 335 1, 5) := by decide +kernel
theorem dJ1_buildFromSorted_2_62 : decode cJ1_buildFromSorted_2 62 = .ok (.checkcast 338, 3) := dk_192 1 82 (dk_at dksJ1_buildFromSorted_2_2 15 rfl rfl)
theorem dJ1_buildFromSorted_2_65 : decode cJ1_buildFromSorted_2 65 = .ok (.astore 12, 2) := dk_58 12 (dk_at dksJ1_buildFromSorted_2_2 18 rfl rfl)
theorem dJ1_buildFromSorted_2_67 : decode cJ1_buildFromSorted_2 67 = .ok (.aload 12, 2) := dk_25 12 (dk_at dksJ1_buildFromSorted_2_2 20 rfl rfl)
theorem dJ1_buildFromSorted_2_69 : decode cJ1_buildFromSorted_2 69 = .ok (.invokeinterface 340 1, 5) := by decide +kernel
theorem dJ1_buildFromSorted_2_74 : decode cJ1_buildFromSorted_2 74 = .ok (.astore 10, 2) := dk_58 10 (dk_at dksJ1_buildFromSorted_2_3 5 rfl rfl)
theorem dJ1_buildFromSorted_2_76 : decode cJ1_buildFromSorted_2 76 = .ok (.aload 12, 2) := dk_25 12 (dk_at dksJ1_buildFromSorted_2_3 7 rfl rfl)
theorem dJ1_buildFromSorted_2_78 : decode cJ1_buildFromSorted_2 78 = .ok (.invokeinterface 347 1, 5) := by decide +kernel
theorem dJ1_buildFromSorted_2_83 : decode cJ1_buildFromSorted_2 83 = .ok (.astore 11, 2) := dk_58 11 (dk_at dksJ1_buildFromSorted_2_3 14 rfl rfl)
theorem dJ1_buildFromSorted_2_85 : decode cJ1_buildFromSorted_2 85 = .ok (.goto 43, 3) := dk_167 0 43 (dk_at dksJ1_buildFromSorted_2_3 16 rfl rfl)
theorem dJ1_buildFromSorted_2_88 : decode cJ1_buildFromSorted_2 88 = .ok (.aload 5, 2) := dk_25 5 (dk_at dksJ1_buildFromSorted_2_3 19 rfl rfl)
theorem dJ1_buildFromSorted_2_90 : decode cJ1_buildFromSorted_2 90 = .ok (.invokeinterface 335 1, 5) := by decide +kernel
theorem dJ1_buildFromSorted_2_95 : decode cJ1_buildFromSorted_2 95 = .ok (.astore 10, 2) := dk_58 10 (dk_at dksJ1_buildFromSorted_2_4 5 rfl rfl)
theorem dJ1_buildFromSorted_2_97 : decode cJ1_buildFromSorted_2 97 = .ok (.aload 7, 2) := dk_25 7 (dk_at dksJ1_buildFromSorted_2_4 7 rfl rfl)
theorem dJ1_buildFromSorted_2_99 : decode cJ1_buildFromSorted_2 99 = .ok (.astore 11, 2) := dk_58 11 (dk_at dksJ1_buildFromSorted_2_4 9 rfl rfl)
theorem dJ1_buildFromSorted_2_101 : decode cJ1_buildFromSorted_2 101 = .ok (.goto 27, 3) := dk_167 0 27 (dk_at dksJ1_buildFromSorted_2_4 11 rfl rfl)
theorem dJ1_buildFromSorted_2_104 : decode cJ1_buildFromSorted_2 104 = .ok (.aload 6, 2) := dk_25 6 (dk_at dksJ1_buildFromSorted_2_4 14 rfl rfl)
theorem dJ1_buildFromSorted_2_106 : decode cJ1_buildFromSorted_2 106 = .ok (.invokevirtual 369, 3) := dk_182 1 113 (dk_at dksJ1_buildFromSorted_2_4 16 rfl rfl)
theorem dJ1_buildFromSorted_2_109 : decode cJ1_buildFromSorted_2 109 = .ok (.astore 10, 2) := dk_58 10 (dk_at dksJ1_buildFromSorted_2_4 19 rfl rfl)
theorem dJ1_buildFromSorted_2_111 : decode cJ1_buildFromSorted_2 111 = .ok (.aload 7, 2) := dk_25 7 (dk_at dksJ1_buildFromSorted_2_4 21 rfl rfl)
theorem dJ1_buildFromSorted_2_113 : decode cJ1_buildFromSorted_2 113 = .ok (.ifnull 8, 3) := dk_198 0 8 (dk_at dksJ1_buildFromSorted_2_5 0 rfl rfl)
theorem dJ1_buildFromSorted_2_116 : decode cJ1_buildFromSorted_2 116 = .ok (.aload 7, 2) := dk_25 7 (dk_at dksJ1_buildFromSorted_2_5 3 rfl rfl)
theorem dJ1_buildFromSorted_2_118 : decode cJ1_buildFromSorted_2 118 = .ok (.goto 8, 3) := dk_167 0 8 (dk_at dksJ1_buildFromSorted_2_5 5 rfl rfl)
theorem dJ1_buildFromSorted_2_121 : decode cJ1_buildFromSorted_2 121 = .ok (.aload 6, 2) := dk_25 6 (dk_at dksJ1_buildFromSorted_2_5 8 rfl rfl)
theorem dJ1_buildFromSorted_2_123 : decode cJ1_buildFromSorted_2 123 = .ok (.invokevirtual 369, 3) := dk_182 1 113 (dk_at dksJ1_buildFromSorted_2_5 10 rfl rfl)
theorem dJ1_buildFromSorted_2_126 : decode cJ1_buildFromSorted_2 126 = .ok (.astore 11, 2) := dk_58 11 (dk_at dksJ1_buildFromSorted_2_5 13 rfl rfl)
theorem dJ1_buildFromSorted_2_128 : decode cJ1_buildFromSorted_2 128 = .ok (.new 59, 3) := dk_187 0 59 (dk_at dksJ1_buildFromSorted_2_5 15 rfl rfl)
theorem dJ1_buildFromSorted_2_131 : decode cJ1_buildFromSorted_2 131 = .ok (.dup, 1) := dk_89 (dk_at dksJ1_buildFromSorted_2_5 18 rfl rfl)
theorem dJ1_buildFromSorted_2_132 : decode cJ1_buildFromSorted_2 132 = .ok (.aload 10, 2) := dk_25 10 (dk_at dksJ1_buildFromSorted_2_5 19 rfl rfl)
theorem dJ1_buildFromSorted_2_134 : decode cJ1_buildFromSorted_2 134 = .ok (.aload 11, 2) := dk_25 11 (dk_at dksJ1_buildFromSorted_2_5 21 rfl rfl)
theorem dJ1_buildFromSorted_2_136 : decode cJ1_buildFromSorted_2 136 = .ok (.aconst_null, 1) := dk_1 (dk_at dksJ1_buildFromSorted_2_5 23 rfl rfl)
theorem dJ1_buildFromSorted_2_137 : decode cJ1_buildFromSorted_2 137 = .ok (.invokespecial 167, 3) := dk_183 0 167 (dk_at dksJ1_buildFromSorted_2_6 0 rfl rfl)
theorem dJ1_buildFromSorted_2_140 : decode cJ1_buildFromSorted_2 140 = .ok (.astore 12, 2) := dk_58 12 (dk_at dksJ1_buildFromSorted_2_6 3 rfl rfl)
theorem dJ1_buildFromSorted_2_142 : decode cJ1_buildFromSorted_2 142 = .ok (.iload_n 1, 1) := dk_27 (dk_at dksJ1_buildFromSorted_2_6 5 rfl rfl)
theorem dJ1_buildFromSorted_2_143 : decode cJ1_buildFromSorted_2 143 = .ok (.iload 4, 2) := dk_21 4 (dk_at dksJ1_buildFromSorted_2_6 6 rfl rfl)
theorem dJ1_buildFromSorted_2_145 : decode cJ1_buildFromSorted_2 145 = .ok (.if_icmp .ne 9, 3) := dk_160 0 9 (dk_at dksJ1_buildFromSorted_2_6 8 rfl rfl)
theorem dJ1_buildFromSorted_2_148 : decode cJ1_buildFromSorted_2 148 = .ok (.aload 12, 2) := dk_25 12 (dk_at dksJ1_buildFromSorted_2_6 11 rfl rfl)
theorem dJ1_buildFromSorted_2_150 : decode cJ1_buildFromSorted_2 150 = .ok (.iconst 0, 1) := dk_3 (dk_at dksJ1_buildFromSorted_2_6 13 rfl rfl)
theorem dJ1_buildFromSorted_2_151 : decode cJ1_buildFromSorted_2 151 = .ok (.putfield 290, 3) := dk_181 1 34 (dk_at dksJ1_buildFromSorted_2_6 14 rfl rfl)
theorem dJ1_buildFromSorted_2_154 : decode cJ1_buildFromSorted_2 154 = .ok (.aload 9, 2) := dk_25 9 (dk_at dksJ1_buildFromSorted_2_6 17 rfl rfl)
theorem dJ1_buildFromSorted_2_156 : decode cJ1_buildFromSorted_2 156 = .ok (.ifnull 17, 3) := dk_198 0 17 (dk_at dksJ1_buildFromSorted_2_6 19 rfl rfl)
theorem dJ1_buildFromSorted_2_159 : decode cJ1_buildFromSorted_2 159 = .ok (.aload 12, 2) := dk_25 12 (dk_at dksJ1_buildFromSorted_2_6 22 rfl rfl)
theorem dJ1_buildFromSorted_2_161 : decode cJ1_buildFromSorted_2 161 = .ok (.aload 9, 2) := dk_25 9 (dk_at dksJ1_buildFromSorted_2_7 0 rfl rfl)
theorem dJ1_buildFromSorted_2_163 : decode cJ1_buildFromSorted_2 163 = .ok (.putfield 111, 3) := dk_181 0 111 (dk_at dksJ1_buildFromSorted_2_7 2 rfl rfl)
theorem dJ1_buildFromSorted_2_166 : decode cJ1_buildFromSorted_2 166 = .ok (.aload 9, 2) := dk_25 9 (dk_at dksJ1_buildFromSorted_2_7 5 rfl rfl)
theorem dJ1_buildFromSorted_2_168 : decode cJ1_buildFromSorted_2 168 = .ok (.aload 12, 2) := dk_25 12 (dk_at dksJ1_buildFromSorted_2_7 7 rfl rfl)
theorem dJ1_buildFromSorted_2_170 : decode cJ1_buildFromSorted_2 170 = .ok (.putfield 124, 3) := dk_181 0 124 (dk_at dksJ1_buildFromSorted_2_7 9 rfl rfl)
theorem dJ1_buildFromSorted_2_173 : decode cJ1_buildFromSorted_2 173 = .ok (.iload 8, 2) := dk_21 8 (dk_at dksJ1_buildFromSorted_2_7 12 rfl rfl)
theorem dJ1_buildFromSorted_2_175 : decode cJ1_buildFromSorted_2 175 = .ok (.iload_n 3, 1) := dk_29 (dk_at dksJ1_buildFromSorted_2_7 14 rfl rfl)
theorem dJ1_buildFromSorted_2_176 : decode cJ1_buildFromSorted_2 176 = .ok (.if_icmp .ge 39, 3) := dk_162 0 39 (dk_at dksJ1_buildFromSorted_2_7 15 rfl rfl)
theorem dJ1_buildFromSorted_2_179 : decode cJ1_buildFromSorted_2 179 = .ok (.aload_n 0, 1) := dk_42 (dk_at dksJ1_buildFromSorted_2_7 18 rfl rfl)
theorem dJ1_buildFromSorted_2_180 : decode cJ1_buildFromSorted_2 180 = .ok (.iload_n 1, 1) := dk_27 (dk_at dksJ1_buildFromSorted_2_7 19 rfl rfl)
theorem dJ1_buildFromSorted_2_181 : decode cJ1_buildFromSorted_2 181 = .ok (.iconst 1, 1) := dk_4 (dk_at dksJ1_buildFromSorted_2_7 20 rfl rfl)
theorem dJ1_buildFromSorted_2_182 : decode cJ1_buildFromSorted_2 182 = .ok (.iadd, 1) := dk_96 (dk_at dksJ1_buildFromSorted_2_7 21 rfl rfl)
theorem dJ1_buildFromSorted_2_183 : decode cJ1_buildFromSorted_2 183 = .ok (.iload 8, 2) := dk_21 8 (dk_at dksJ1_buildFromSorted_2_7 22 rfl rfl)
theorem dJ1_buildFromSorted_2_185 : decode cJ1_buildFromSorted_2 185 = .ok (.iconst 1, 1) := dk_4 (dk_at dksJ1_buildFromSorted_2_8 0 rfl rfl)
theorem dJ1_buildFromSorted_2_186 : decode cJ1_buildFromSorted_2 186 = .ok (.iadd, 1) := dk_96 (dk_at dksJ1_buildFromSorted_2_8 1 rfl rfl)
theorem dJ1_buildFromSorted_2_187 : decode cJ1_buildFromSorted_2 187 = .ok (.iload_n 3, 1) := dk_29 (dk_at dksJ1_buildFromSorted_2_8 2 rfl rfl)
theorem dJ1_buildFromSorted_2_188 : decode cJ1_buildFromSorted_2 188 = .ok (.iload 4, 2) := dk_21 4 (dk_at dksJ1_buildFromSorted_2_8 3 rfl rfl)
theorem dJ1_buildFromSorted_2_190 : decode cJ1_buildFromSorted_2 190 = .ok (.aload 5, 2) := dk_25 5 (dk_at dksJ1_buildFromSorted_2_8 5 rfl rfl)
theorem dJ1_buildFromSorted_2_192 : decode cJ1_buildFromSorted_2 192 = .ok (.aload 6, 2) := dk_25 6 (dk_at dksJ1_buildFromSorted_2_8 7 rfl rfl)
theorem dJ1_buildFromSorted_2_194 : decode cJ1_buildFromSorted_2 194 = .ok (.aload 7, 2) := dk_25 7 (dk_at dksJ1_buildFromSorted_2_8 9 rfl rfl)
theorem dJ1_buildFromSorted_2_196 : decode cJ1_buildFromSorted_2 196 = .ok (.invokevirtual 366, 3) := dk_182 1 110 (dk_at dksJ1_buildFromSorted_2_8 11 rfl rfl)
theorem dJ1_buildFromSorted_2_199 : decode cJ1_buildFromSorted_2 199 = .ok (.astore 13, 2) := dk_58 13 (dk_at dksJ1_buildFromSorted_2_8 14 rfl rfl)
theorem dJ1_buildFromSorted_2_201 : decode cJ1_buildFromSorted_2 201 = .ok (.aload 12, 2) := dk_25 12 (dk_at dksJ1_buildFromSorted_2_8 16 rfl rfl)
theorem dJ1_buildFromSorted_2_203 : decode cJ1_buildFromSorted_2 203 = .ok (.aload 13, 2) := dk_25 13 (dk_at dksJ1_buildFromSorted_2_8 18 rfl rfl)
theorem dJ1_buildFromSorted_2_205 : decode cJ1_buildFromSorted_2 205 = .ok (.putfield 114, 3) := dk_181 0 114 (dk_at dksJ1_buildFromSorted_2_8 20 rfl rfl)
theorem dJ1_buildFromSorted_2_208 : decode cJ1_buildFromSorted_2 208 = .ok (.aload 13, 2) := dk_25 13 (dk_at dksJ1_buildFromSorted_2_9 0 rfl rfl)
theorem dJ1_buildFromSorted_2_210 : decode cJ1_buildFromSorted_2 210 = .ok (.aload 12, 2) := dk_25 12 (dk_at dksJ1_buildFromSorted_2_9 2 rfl rfl)
theorem dJ1_buildFromSorted_2_212 : decode cJ1_buildFromSorted_2 212 = .ok (.putfield 124, 3) := dk_181 0 124 (dk_at dksJ1_buildFromSorted_2_9 4 rfl rfl)
theorem dJ1_buildFromSorted_2_215 : decode cJ1_buildFromSorted_2 215 = .ok (.aload 12, 2) := dk_25 12 (dk_at dksJ1_buildFromSorted_2_9 7 rfl rfl)
theorem dJ1_buildFromSorted_2_217 : decode cJ1_buildFromSorted_2 217 = .ok (.areturn, 1) := dk_176 (dk_at dksJ1_buildFromSorted_2_9 9 rfl rfl)
abbrev cJ1_successor : ByteArray := prog_81_method_74_code
def yJ1_successor : MethodName := ⟨RJ1, "successor", "(Ljava/util/TreeMap$Entry;)Ljava/util/TreeMap$Entry;"⟩
def dkwJ1_successor_2 : List UInt8 := [44, 43, 180, 0, 114, 166, 0, 13, 43, 77, 43, 180, 0, 124, 76, 167, 255, 237, 43, 176]
abbrev dktJ1_successor_2 : List UInt8 := dkwJ1_successor_2 ++ []
def dkwJ1_successor_1 : List UInt8 := [198, 0, 11, 43, 180, 0, 111, 76, 167, 255, 244, 43, 176, 42, 180, 0, 124, 76, 42, 77, 43, 198, 0, 21]
abbrev dktJ1_successor_1 : List UInt8 := dkwJ1_successor_1 ++ dktJ1_successor_2
def dkwJ1_successor_0 : List UInt8 := [42, 199, 0, 5, 1, 176, 42, 180, 0, 114, 198, 0, 25, 42, 180, 0, 114, 76, 43, 180, 0, 111]
abbrev dktJ1_successor_0 : List UInt8 := dkwJ1_successor_0 ++ dktJ1_successor_1
theorem dksJ1_successor_0 : cJ1_successor.data.toList.drop 0 = dktJ1_successor_0 := by decide +kernel
theorem dksJ1_successor_1 : cJ1_successor.data.toList.drop 22 = dktJ1_successor_1 := dk_seg dksJ1_successor_0 22 rfl rfl
theorem dksJ1_successor_2 : cJ1_successor.data.toList.drop 46 = dktJ1_successor_2 := dk_seg dksJ1_successor_1 24 rfl rfl
theorem dJ1_successor_0 : decode cJ1_successor 0 = .ok (.aload_n 0, 1) := dk_42 (dk_at dksJ1_successor_0 0 rfl rfl)
theorem dJ1_successor_1 : decode cJ1_successor 1 = .ok (.ifnonnull 5, 3) := dk_199 0 5 (dk_at dksJ1_successor_0 1 rfl rfl)
theorem dJ1_successor_4 : decode cJ1_successor 4 = .ok (.aconst_null, 1) := dk_1 (dk_at dksJ1_successor_0 4 rfl rfl)
theorem dJ1_successor_5 : decode cJ1_successor 5 = .ok (.areturn, 1) := dk_176 (dk_at dksJ1_successor_0 5 rfl rfl)
theorem dJ1_successor_6 : decode cJ1_successor 6 = .ok (.aload_n 0, 1) := dk_42 (dk_at dksJ1_successor_0 6 rfl rfl)
theorem dJ1_successor_7 : decode cJ1_successor 7 = .ok (.getfield 114, 3) := dk_180 0 114 (dk_at dksJ1_successor_0 7 rfl rfl)
theorem dJ1_successor_10 : decode cJ1_successor 10 = .ok (.ifnull 25, 3) := dk_198 0 25 (dk_at dksJ1_successor_0 10 rfl rfl)
theorem dJ1_successor_13 : decode cJ1_successor 13 = .ok (.aload_n 0, 1) := dk_42 (dk_at dksJ1_successor_0 13 rfl rfl)
theorem dJ1_successor_14 : decode cJ1_successor 14 = .ok (.getfield 114, 3) := dk_180 0 114 (dk_at dksJ1_successor_0 14 rfl rfl)
theorem dJ1_successor_17 : decode cJ1_successor 17 = .ok (.astore_n 1, 1) := dk_76 (dk_at dksJ1_successor_0 17 rfl rfl)
theorem dJ1_successor_18 : decode cJ1_successor 18 = .ok (.aload_n 1, 1) := dk_43 (dk_at dksJ1_successor_0 18 rfl rfl)
theorem dJ1_successor_19 : decode cJ1_successor 19 = .ok (.getfield 111, 3) := dk_180 0 111 (dk_at dksJ1_successor_0 19 rfl rfl)
theorem dJ1_successor_22 : decode cJ1_successor 22 = .ok (.ifnull 11, 3) := dk_198 0 11 (dk_at dksJ1_successor_1 0 rfl rfl)
theorem dJ1_successor_25 : decode cJ1_successor 25 = .ok (.aload_n 1, 1) := dk_43 (dk_at dksJ1_successor_1 3 rfl rfl)
theorem dJ1_successor_26 : decode cJ1_successor 26 = .ok (.getfield 111, 3) := dk_180 0 111 (dk_at dksJ1_successor_1 4 rfl rfl)
theorem dJ1_successor_29 : decode cJ1_successor 29 = .ok (.astore_n 1, 1) := dk_76 (dk_at dksJ1_successor_1 7 rfl rfl)
theorem dJ1_successor_30 : decode cJ1_successor 30 = .ok (.goto (-12), 3) := dk_167 255 244 (dk_at dksJ1_successor_1 8 rfl rfl)
theorem dJ1_successor_33 : decode cJ1_successor 33 = .ok (.aload_n 1, 1) := dk_43 (dk_at dksJ1_successor_1 11 rfl rfl)
theorem dJ1_successor_34 : decode cJ1_successor 34 = .ok (.areturn, 1) := dk_176 (dk_at dksJ1_successor_1 12 rfl rfl)
theorem dJ1_successor_35 : decode cJ1_successor 35 = .ok (.aload_n 0, 1) := dk_42 (dk_at dksJ1_successor_1 13 rfl rfl)
theorem dJ1_successor_36 : decode cJ1_successor 36 = .ok (.getfield 124, 3) := dk_180 0 124 (dk_at dksJ1_successor_1 14 rfl rfl)
theorem dJ1_successor_39 : decode cJ1_successor 39 = .ok (.astore_n 1, 1) := dk_76 (dk_at dksJ1_successor_1 17 rfl rfl)
theorem dJ1_successor_40 : decode cJ1_successor 40 = .ok (.aload_n 0, 1) := dk_42 (dk_at dksJ1_successor_1 18 rfl rfl)
theorem dJ1_successor_41 : decode cJ1_successor 41 = .ok (.astore_n 2, 1) := dk_77 (dk_at dksJ1_successor_1 19 rfl rfl)
theorem dJ1_successor_42 : decode cJ1_successor 42 = .ok (.aload_n 1, 1) := dk_43 (dk_at dksJ1_successor_1 20 rfl rfl)
theorem dJ1_successor_43 : decode cJ1_successor 43 = .ok (.ifnull 21, 3) := dk_198 0 21 (dk_at dksJ1_successor_1 21 rfl rfl)
theorem dJ1_successor_46 : decode cJ1_successor 46 = .ok (.aload_n 2, 1) := dk_44 (dk_at dksJ1_successor_2 0 rfl rfl)
theorem dJ1_successor_47 : decode cJ1_successor 47 = .ok (.aload_n 1, 1) := dk_43 (dk_at dksJ1_successor_2 1 rfl rfl)
theorem dJ1_successor_48 : decode cJ1_successor 48 = .ok (.getfield 114, 3) := dk_180 0 114 (dk_at dksJ1_successor_2 2 rfl rfl)
theorem dJ1_successor_51 : decode cJ1_successor 51 = .ok (.if_acmp .ne 13, 3) := dk_166 0 13 (dk_at dksJ1_successor_2 5 rfl rfl)
theorem dJ1_successor_54 : decode cJ1_successor 54 = .ok (.aload_n 1, 1) := dk_43 (dk_at dksJ1_successor_2 8 rfl rfl)
theorem dJ1_successor_55 : decode cJ1_successor 55 = .ok (.astore_n 2, 1) := dk_77 (dk_at dksJ1_successor_2 9 rfl rfl)
theorem dJ1_successor_56 : decode cJ1_successor 56 = .ok (.aload_n 1, 1) := dk_43 (dk_at dksJ1_successor_2 10 rfl rfl)
theorem dJ1_successor_57 : decode cJ1_successor 57 = .ok (.getfield 124, 3) := dk_180 0 124 (dk_at dksJ1_successor_2 11 rfl rfl)
theorem dJ1_successor_60 : decode cJ1_successor 60 = .ok (.astore_n 1, 1) := dk_76 (dk_at dksJ1_successor_2 14 rfl rfl)
theorem dJ1_successor_61 : decode cJ1_successor 61 = .ok (.goto (-19), 3) := dk_167 255 237 (dk_at dksJ1_successor_2 15 rfl rfl)
theorem dJ1_successor_64 : decode cJ1_successor 64 = .ok (.aload_n 1, 1) := dk_43 (dk_at dksJ1_successor_2 18 rfl rfl)
theorem dJ1_successor_65 : decode cJ1_successor 65 = .ok (.areturn, 1) := dk_176 (dk_at dksJ1_successor_2 19 rfl rfl)
abbrev cJ1_get : ByteArray := prog_81_method_8_code
def yJ1_get : MethodName := ⟨RJ1, "get", "(Ljava/lang/Object;)Ljava/lang/Object;"⟩
def dkwJ1_get_0 : List UInt8 := [42, 43, 182, 0, 50, 77, 44, 199, 0, 7, 1, 167, 0, 7, 44, 180, 0, 58, 176]
abbrev dktJ1_get_0 : List UInt8 := dkwJ1_get_0 ++ []
theorem dksJ1_get_0 : cJ1_get.data.toList.drop 0 = dktJ1_get_0 := by decide +kernel
theorem dJ1_get_0 : decode cJ1_get 0 = .ok (.aload_n 0, 1) := dk_42 (dk_at dksJ1_get_0 0 rfl rfl)
theorem dJ1_get_1 : decode cJ1_get 1 = .ok (.aload_n 1, 1) := dk_43 (dk_at dksJ1_get_0 1 rfl rfl)
theorem dJ1_get_2 : decode cJ1_get 2 = .ok (.invokevirtual 50, 3) := dk_182 0 50 (dk_at dksJ1_get_0 2 rfl rfl)
theorem dJ1_get_5 : decode cJ1_get 5 = .ok (.astore_n 2, 1) := dk_77 (dk_at dksJ1_get_0 5 rfl rfl)
theorem dJ1_get_6 : decode cJ1_get 6 = .ok (.aload_n 2, 1) := dk_44 (dk_at dksJ1_get_0 6 rfl rfl)
theorem dJ1_get_7 : decode cJ1_get 7 = .ok (.ifnonnull 7, 3) := dk_199 0 7 (dk_at dksJ1_get_0 7 rfl rfl)
theorem dJ1_get_10 : decode cJ1_get 10 = .ok (.aconst_null, 1) := dk_1 (dk_at dksJ1_get_0 10 rfl rfl)
theorem dJ1_get_11 : decode cJ1_get 11 = .ok (.goto 7, 3) := dk_167 0 7 (dk_at dksJ1_get_0 11 rfl rfl)
theorem dJ1_get_14 : decode cJ1_get 14 = .ok (.aload_n 2, 1) := dk_44 (dk_at dksJ1_get_0 14 rfl rfl)
theorem dJ1_get_15 : decode cJ1_get 15 = .ok (.getfield 58, 3) := dk_180 0 58 (dk_at dksJ1_get_0 15 rfl rfl)
theorem dJ1_get_18 : decode cJ1_get 18 = .ok (.areturn, 1) := dk_176 (dk_at dksJ1_get_0 18 rfl rfl)
abbrev cJ1_getEntry : ByteArray := prog_81_method_15_code
def yJ1_getEntry : MethodName := ⟨RJ1, "getEntry", "(Ljava/lang/Object;)Ljava/util/TreeMap$Entry;"⟩
def dkwJ1_getEntry_3 : List UInt8 := [45, 176, 167, 255, 212, 1, 176]
abbrev dktJ1_getEntry_3 : List UInt8 := dkwJ1_getEntry_3 ++ []
def dkwJ1_getEntry_2 : List UInt8 := [156, 0, 11, 45, 180, 0, 111, 78, 167, 0, 18, 21, 4, 158, 0, 11, 45, 180, 0, 114, 78, 167, 0, 5]
abbrev dktJ1_getEntry_2 : List UInt8 := dkwJ1_getEntry_2 ++ dktJ1_getEntry_3
def dkwJ1_getEntry_1 : List UInt8 := [180, 0, 101, 78, 45, 198, 0, 46, 44, 45, 180, 0, 105, 185, 0, 107, 2, 0, 54, 4, 21, 4]
abbrev dktJ1_getEntry_1 : List UInt8 := dkwJ1_getEntry_1 ++ dktJ1_getEntry_2
def dkwJ1_getEntry_0 : List UInt8 := [42, 180, 0, 16, 198, 0, 9, 42, 43, 182, 0, 92, 176, 43, 184, 0, 95, 87, 43, 192, 0, 99, 77, 42]
abbrev dktJ1_getEntry_0 : List UInt8 := dkwJ1_getEntry_0 ++ dktJ1_getEntry_1
theorem dksJ1_getEntry_0 : cJ1_getEntry.data.toList.drop 0 = dktJ1_getEntry_0 := by decide +kernel
theorem dksJ1_getEntry_1 : cJ1_getEntry.data.toList.drop 24 = dktJ1_getEntry_1 := dk_seg dksJ1_getEntry_0 24 rfl rfl
theorem dksJ1_getEntry_2 : cJ1_getEntry.data.toList.drop 46 = dktJ1_getEntry_2 := dk_seg dksJ1_getEntry_1 22 rfl rfl
theorem dksJ1_getEntry_3 : cJ1_getEntry.data.toList.drop 70 = dktJ1_getEntry_3 := dk_seg dksJ1_getEntry_2 24 rfl rfl
theorem dJ1_getEntry_0 : decode cJ1_getEntry 0 = .ok (.aload_n 0, 1) := dk_42 (dk_at dksJ1_getEntry_0 0 rfl rfl)
theorem dJ1_getEntry_1 : decode cJ1_getEntry 1 = .ok (.getfield 16, 3) := dk_180 0 16 (dk_at dksJ1_getEntry_0 1 rfl rfl)
theorem dJ1_getEntry_4 : decode cJ1_getEntry 4 = .ok (.ifnull 9, 3) := dk_198 0 9 (dk_at dksJ1_getEntry_0 4 rfl rfl)
theorem dJ1_getEntry_7 : decode cJ1_getEntry 7 = .ok (.aload_n 0, 1) := dk_42 (dk_at dksJ1_getEntry_0 7 rfl rfl)
theorem dJ1_getEntry_8 : decode cJ1_getEntry 8 = .ok (.aload_n 1, 1) := dk_43 (dk_at dksJ1_getEntry_0 8 rfl rfl)
theorem dJ1_getEntry_9 : decode cJ1_getEntry 9 = .ok (.invokevirtual 92, 3) := dk_182 0 92 (dk_at dksJ1_getEntry_0 9 rfl rfl)
theorem dJ1_getEntry_12 : decode cJ1_getEntry 12 = .ok (.areturn, 1) := dk_176 (dk_at dksJ1_getEntry_0 12 rfl rfl)
theorem dJ1_getEntry_13 : decode cJ1_getEntry 13 = .ok (.aload_n 1, 1) := dk_43 (dk_at dksJ1_getEntry_0 13 rfl rfl)
theorem dJ1_getEntry_14 : decode cJ1_getEntry 14 = .ok (.invokestatic 95, 3) := dk_184 0 95 (dk_at dksJ1_getEntry_0 14 rfl rfl)
theorem dJ1_getEntry_17 : decode cJ1_getEntry 17 = .ok (.pop, 1) := dk_87 (dk_at dksJ1_getEntry_0 17 rfl rfl)
theorem dJ1_getEntry_18 : decode cJ1_getEntry 18 = .ok (.aload_n 1, 1) := dk_43 (dk_at dksJ1_getEntry_0 18 rfl rfl)
theorem dJ1_getEntry_19 : decode cJ1_getEntry 19 = .ok (.checkcast 99, 3) := dk_192 0 99 (dk_at dksJ1_getEntry_0 19 rfl rfl)
theorem dJ1_getEntry_22 : decode cJ1_getEntry 22 = .ok (.astore_n 2, 1) := dk_77 (dk_at dksJ1_getEntry_0 22 rfl rfl)
theorem dJ1_getEntry_23 : decode cJ1_getEntry 23 = .ok (.aload_n 0, 1) := dk_42 (dk_at dksJ1_getEntry_0 23 rfl rfl)
theorem dJ1_getEntry_24 : decode cJ1_getEntry 24 = .ok (.getfield 101, 3) := dk_180 0 101 (dk_at dksJ1_getEntry_1 0 rfl rfl)
theorem dJ1_getEntry_27 : decode cJ1_getEntry 27 = .ok (.astore_n 3, 1) := dk_78 (dk_at dksJ1_getEntry_1 3 rfl rfl)
theorem dJ1_getEntry_28 : decode cJ1_getEntry 28 = .ok (.aload_n 3, 1) := dk_45 (dk_at dksJ1_getEntry_1 4 rfl rfl)
theorem dJ1_getEntry_29 : decode cJ1_getEntry 29 = .ok (.ifnull 46, 3) := dk_198 0 46 (dk_at dksJ1_getEntry_1 5 rfl rfl)
theorem dJ1_getEntry_32 : decode cJ1_getEntry 32 = .ok (.aload_n 2, 1) := dk_44 (dk_at dksJ1_getEntry_1 8 rfl rfl)
theorem dJ1_getEntry_33 : decode cJ1_getEntry 33 = .ok (.aload_n 3, 1) := dk_45 (dk_at dksJ1_getEntry_1 9 rfl rfl)
theorem dJ1_getEntry_34 : decode cJ1_getEntry 34 = .ok (.getfield 105, 3) := dk_180 0 105 (dk_at dksJ1_getEntry_1 10 rfl rfl)
theorem dJ1_getEntry_37 : decode cJ1_getEntry 37 = .ok (.invokeinterface 107 2, 5) := by decide +kernel
theorem dJ1_getEntry_42 : decode cJ1_getEntry 42 = .ok (.istore 4, 2) := dk_54 4 (dk_at dksJ1_getEntry_1 18 rfl rfl)
theorem dJ1_getEntry_44 : decode cJ1_getEntry 44 = .ok (.iload 4, 2) := dk_21 4 (dk_at dksJ1_getEntry_1 20 rfl rfl)
theorem dJ1_getEntry_46 : decode cJ1_getEntry 46 = .ok (.ifCond .ge 11, 3) := dk_156 0 11 (dk_at dksJ1_getEntry_2 0 rfl rfl)
theorem dJ1_getEntry_49 : decode cJ1_getEntry 49 = .ok (.aload_n 3, 1) := dk_45 (dk_at dksJ1_getEntry_2 3 rfl rfl)
theorem dJ1_getEntry_50 : decode cJ1_getEntry 50 = .ok (.getfield 111, 3) := dk_180 0 111 (dk_at dksJ1_getEntry_2 4 rfl rfl)
theorem dJ1_getEntry_53 : decode cJ1_getEntry 53 = .ok (.astore_n 3, 1) := dk_78 (dk_at dksJ1_getEntry_2 7 rfl rfl)
theorem dJ1_getEntry_54 : decode cJ1_getEntry 54 = .ok (.goto 18, 3) := dk_167 0 18 (dk_at dksJ1_getEntry_2 8 rfl rfl)
theorem dJ1_getEntry_57 : decode cJ1_getEntry 57 = .ok (.iload 4, 2) := dk_21 4 (dk_at dksJ1_getEntry_2 11 rfl rfl)
theorem dJ1_getEntry_59 : decode cJ1_getEntry 59 = .ok (.ifCond .le 11, 3) := dk_158 0 11 (dk_at dksJ1_getEntry_2 13 rfl rfl)
theorem dJ1_getEntry_62 : decode cJ1_getEntry 62 = .ok (.aload_n 3, 1) := dk_45 (dk_at dksJ1_getEntry_2 16 rfl rfl)
theorem dJ1_getEntry_63 : decode cJ1_getEntry 63 = .ok (.getfield 114, 3) := dk_180 0 114 (dk_at dksJ1_getEntry_2 17 rfl rfl)
theorem dJ1_getEntry_66 : decode cJ1_getEntry 66 = .ok (.astore_n 3, 1) := dk_78 (dk_at dksJ1_getEntry_2 20 rfl rfl)
theorem dJ1_getEntry_67 : decode cJ1_getEntry 67 = .ok (.goto 5, 3) := dk_167 0 5 (dk_at dksJ1_getEntry_2 21 rfl rfl)
theorem dJ1_getEntry_70 : decode cJ1_getEntry 70 = .ok (.aload_n 3, 1) := dk_45 (dk_at dksJ1_getEntry_3 0 rfl rfl)
theorem dJ1_getEntry_71 : decode cJ1_getEntry 71 = .ok (.areturn, 1) := dk_176 (dk_at dksJ1_getEntry_3 1 rfl rfl)
theorem dJ1_getEntry_72 : decode cJ1_getEntry 72 = .ok (.goto (-44), 3) := dk_167 255 212 (dk_at dksJ1_getEntry_3 2 rfl rfl)
theorem dJ1_getEntry_75 : decode cJ1_getEntry 75 = .ok (.aconst_null, 1) := dk_1 (dk_at dksJ1_getEntry_3 5 rfl rfl)
theorem dJ1_getEntry_76 : decode cJ1_getEntry 76 = .ok (.areturn, 1) := dk_176 (dk_at dksJ1_getEntry_3 6 rfl rfl)
theorem q126 : (Jvm.Cond.initialized "java/util/TreeMap") ∈ lw_all := lw_g (lw_at lw_m1 4 rfl) rfl
theorem q205 : (Jvm.Cond.instantiable "java/util/TreeMap" (9 : Nat)) ∈ lw_all := lw_g (lw_at lw_m1 83 rfl) rfl
theorem q207 : (Jvm.Cond.instanceMethod ({ cls := "java/util/TreeMap", name := "<init>", desc := "()V" } : Jvm.MethodName)) ∈ lw_all := lw_g (lw_at lw_m1 85 rfl) rfl
theorem q208 : (Jvm.Cond.code ({ cls := "java/util/TreeMap", name := "<init>", desc := "()V" } : Jvm.MethodName) prog_81_method_1_code (1 : Nat) (Option.none : Option Jvm.ClassFile.FieldType)) ∈ lw_all := lw_g (lw_at lw_m1 86 rfl) rfl
theorem q209 : (Jvm.Cond.methodLink "java/util/TreeMap" (1 : Nat) ({ cls := "java/util/AbstractMap", name := "<init>", desc := "()V" } : Jvm.MethodName)) ∈ lw_all := lw_g (lw_at lw_m1 87 rfl) rfl
theorem q213 : (Jvm.Cond.fieldLink "java/util/TreeMap" (16 : Nat) "java/util/TreeMap" "comparator" "Ljava/util/Comparator;") ∈ lw_all := lw_g (lw_at lw_m1 91 rfl) rfl
theorem q214 : (Jvm.Cond.fieldLink "java/util/TreeMap" (101 : Nat) "java/util/TreeMap" "root" "Ljava/util/TreeMap$Entry;") ∈ lw_all := lw_g (lw_at lw_m1 92 rfl) rfl
theorem q215 : (Jvm.Cond.fieldLink "java/util/TreeMap" (7 : Nat) "java/util/TreeMap" "size" "I") ∈ lw_all := lw_g (lw_at lw_m1 93 rfl) rfl
theorem q216 : (Jvm.Cond.fieldLink "java/util/TreeMap" (13 : Nat) "java/util/TreeMap" "modCount" "I") ∈ lw_all := lw_g (lw_at lw_m1 94 rfl) rfl
theorem q218 : (Jvm.Cond.fieldLink "java/util/TreeMap" (188 : Nat) "java/util/TreeMap" "entrySet" "Ljava/util/TreeMap$EntrySet;") ∈ lw_all := lw_g (lw_at lw_m1 96 rfl) rfl
theorem q219 : (Jvm.Cond.fieldLink "java/util/TreeMap" (191 : Nat) "java/util/TreeMap" "navigableKeySet" "Ljava/util/TreeMap$KeySet;") ∈ lw_all := lw_g (lw_at lw_m1 97 rfl) rfl
theorem q220 : (Jvm.Cond.laysFinal "java/util/TreeMap" "java/util/TreeMap" "comparator" "Ljava/util/Comparator;") ∈ lw_all := lw_g (lw_at lw_m1 98 rfl) rfl
theorem q221 : (Jvm.Cond.soleField "java/util/TreeMap" "comparator") ∈ lw_all := lw_g (lw_at lw_m1 99 rfl) rfl
theorem q222 : (Jvm.Cond.lays "java/util/TreeMap" "java/util/TreeMap" "root" "Ljava/util/TreeMap$Entry;") ∈ lw_all := lw_g (lw_at lw_m1 100 rfl) rfl
theorem q223 : (Jvm.Cond.soleField "java/util/TreeMap" "root") ∈ lw_all := lw_g (lw_at lw_m1 101 rfl) rfl
theorem q224 : (Jvm.Cond.lays "java/util/TreeMap" "java/util/TreeMap" "size" "I") ∈ lw_all := lw_g (lw_at lw_m1 102 rfl) rfl
theorem q225 : (Jvm.Cond.soleField "java/util/TreeMap" "size") ∈ lw_all := lw_g (lw_at lw_m1 103 rfl) rfl
theorem q226 : (Jvm.Cond.lays "java/util/TreeMap" "java/util/TreeMap" "modCount" "I") ∈ lw_all := lw_g (lw_at lw_m1 104 rfl) rfl
theorem q227 : (Jvm.Cond.soleField "java/util/TreeMap" "modCount") ∈ lw_all := lw_g (lw_at lw_m1 105 rfl) rfl
theorem q228 : (Jvm.Cond.lays "java/util/TreeMap" "java/util/TreeMap" "entrySet" "Ljava/util/TreeMap$EntrySet;") ∈ lw_all := lw_g (lw_at lw_m1 106 rfl) rfl
theorem q229 : (Jvm.Cond.soleField "java/util/TreeMap" "entrySet") ∈ lw_all := lw_g (lw_at lw_m1 107 rfl) rfl
theorem q230 : (Jvm.Cond.lays "java/util/TreeMap" "java/util/TreeMap" "navigableKeySet" "Ljava/util/TreeMap$KeySet;") ∈ lw_all := lw_g (lw_at lw_m1 108 rfl) rfl
theorem q231 : (Jvm.Cond.soleField "java/util/TreeMap" "navigableKeySet") ∈ lw_all := lw_g (lw_at lw_m1 109 rfl) rfl
theorem q232 : (Jvm.Cond.lays "java/util/TreeMap" "java/util/TreeMap" "descendingMap" "Ljava/util/NavigableMap;") ∈ lw_all := lw_g (lw_at lw_m1 110 rfl) rfl
theorem q233 : (Jvm.Cond.soleField "java/util/TreeMap" "descendingMap") ∈ lw_all := lw_g (lw_at lw_m1 111 rfl) rfl
theorem q234 : (Jvm.Cond.lays "java/util/TreeMap" "java/util/AbstractMap" "keySet" "Ljava/util/Set;") ∈ lw_all := lw_g (lw_at lw_m1 112 rfl) rfl
theorem q236 : (Jvm.Cond.lays "java/util/TreeMap" "java/util/AbstractMap" "values" "Ljava/util/Collection;") ∈ lw_all := lw_g (lw_at lw_m1 114 rfl) rfl
theorem q238 : (Jvm.Cond.superclass "java/util/TreeMap" "java/util/AbstractMap") ∈ lw_all := lw_g (lw_at lw_m1 116 rfl) rfl
theorem q289 : (Jvm.Cond.instanceMethod ({ cls := "java/util/TreeMap", name := "put", desc := "(Ljava/lang/Object;Ljava/lang/Object;)Ljava/lang/Object;" } : Jvm.MethodName)) ∈ lw_all := lw_g (lw_at lw_m1 167 rfl) rfl
theorem q290 : (Jvm.Cond.selects "java/util/TreeMap" ({ cls := "java/util/TreeMap", name := "put", desc := "(Ljava/lang/Object;Ljava/lang/Object;)Ljava/lang/Object;" } : Jvm.MethodName) ({ cls := "java/util/TreeMap", name := "put", desc := "(Ljava/lang/Object;Ljava/lang/Object;)Ljava/lang/Object;" } : Jvm.MethodName)) ∈ lw_all := lw_g (lw_at lw_m1 168 rfl) rfl
theorem q291 : (Jvm.Cond.code ({ cls := "java/util/TreeMap", name := "put", desc := "(Ljava/lang/Object;Ljava/lang/Object;)Ljava/lang/Object;" } : Jvm.MethodName) prog_81_method_21_code (3 : Nat) (Option.some (Jvm.ClassFile.FieldType.object "java/lang/Object"))) ∈ lw_all := lw_g (lw_at lw_m1 169 rfl) rfl
theorem q292 : (Jvm.Cond.methodLink "java/util/TreeMap" (127 : Nat) ({ cls := "java/util/TreeMap", name := "put", desc := "(Ljava/lang/Object;Ljava/lang/Object;Z)Ljava/lang/Object;" } : Jvm.MethodName)) ∈ lw_all := lw_g (lw_at lw_m1 170 rfl) rfl
theorem q293 : (Jvm.Cond.privateMethod ({ cls := "java/util/TreeMap", name := "put", desc := "(Ljava/lang/Object;Ljava/lang/Object;Z)Ljava/lang/Object;" } : Jvm.MethodName)) ∈ lw_tbl := lw_at lw_m1 171 rfl
theorem q294 : (Jvm.Cond.instanceMethod ({ cls := "java/util/TreeMap", name := "put", desc := "(Ljava/lang/Object;Ljava/lang/Object;Z)Ljava/lang/Object;" } : Jvm.MethodName)) ∈ lw_all := lw_g (lw_at lw_m1 172 rfl) rfl
theorem q295 : (Jvm.Cond.code ({ cls := "java/util/TreeMap", name := "put", desc := "(Ljava/lang/Object;Ljava/lang/Object;Z)Ljava/lang/Object;" } : Jvm.MethodName) prog_81_method_31_code (10 : Nat) (Option.some (Jvm.ClassFile.FieldType.object "java/lang/Object"))) ∈ lw_all := lw_g (lw_at lw_m1 173 rfl) rfl
theorem q296 : (Jvm.Cond.methodLink "java/util/TreeMap" (135 : Nat) ({ cls := "java/util/TreeMap", name := "addEntryToEmptyMap", desc := "(Ljava/lang/Object;Ljava/lang/Object;)V" } : Jvm.MethodName)) ∈ lw_all := lw_g (lw_at lw_m1 174 rfl) rfl
theorem q297 : (Jvm.Cond.privateMethod ({ cls := "java/util/TreeMap", name := "addEntryToEmptyMap", desc := "(Ljava/lang/Object;Ljava/lang/Object;)V" } : Jvm.MethodName)) ∈ lw_tbl := lw_at lw_m1 175 rfl
theorem q298 : (Jvm.Cond.instanceMethod ({ cls := "java/util/TreeMap", name := "addEntryToEmptyMap", desc := "(Ljava/lang/Object;Ljava/lang/Object;)V" } : Jvm.MethodName)) ∈ lw_all := lw_g (lw_at lw_m1 176 rfl) rfl
theorem q299 : (Jvm.Cond.code ({ cls := "java/util/TreeMap", name := "addEntryToEmptyMap", desc := "(Ljava/lang/Object;Ljava/lang/Object;)V" } : Jvm.MethodName) prog_81_method_30_code (3 : Nat) (Option.none : Option Jvm.ClassFile.FieldType)) ∈ lw_all := lw_g (lw_at lw_m1 177 rfl) rfl
theorem q300 : (Jvm.Cond.methodLink "java/util/TreeMap" (123 : Nat) ({ cls := "java/util/TreeMap", name := "compare", desc := "(Ljava/lang/Object;Ljava/lang/Object;)I" } : Jvm.MethodName)) ∈ lw_all := lw_g (lw_at lw_m1 178 rfl) rfl
theorem q301 : (Jvm.Cond.instanceMethod ({ cls := "java/util/TreeMap", name := "compare", desc := "(Ljava/lang/Object;Ljava/lang/Object;)I" } : Jvm.MethodName)) ∈ lw_all := lw_g (lw_at lw_m1 179 rfl) rfl
theorem q302 : (Jvm.Cond.selects "java/util/TreeMap" ({ cls := "java/util/TreeMap", name := "compare", desc := "(Ljava/lang/Object;Ljava/lang/Object;)I" } : Jvm.MethodName) ({ cls := "java/util/TreeMap", name := "compare", desc := "(Ljava/lang/Object;Ljava/lang/Object;)I" } : Jvm.MethodName)) ∈ lw_all := lw_g (lw_at lw_m1 180 rfl) rfl
theorem q303 : (Jvm.Cond.code ({ cls := "java/util/TreeMap", name := "compare", desc := "(Ljava/lang/Object;Ljava/lang/Object;)I" } : Jvm.MethodName) prog_81_method_67_code (3 : Nat) (Option.some Jvm.ClassFile.FieldType.int)) ∈ lw_all := lw_g (lw_at lw_m1 181 rfl) rfl
theorem q304 : (Jvm.Cond.classLink "java/util/TreeMap" (99 : Nat) "java/lang/Comparable") ∈ lw_all := lw_g (lw_at lw_m1 182 rfl) rfl
theorem q305 : (Jvm.Cond.interfaceEntry "java/util/TreeMap" (107 : Nat)) ∈ lw_tbl := lw_at lw_m1 183 rfl
theorem q306 : (Jvm.Cond.methodLink "java/util/TreeMap" (107 : Nat) ({ cls := "java/lang/Comparable", name := "compareTo", desc := "(Ljava/lang/Object;)I" } : Jvm.MethodName)) ∈ lw_all := lw_g (lw_at lw_m1 184 rfl) rfl
theorem q372 : (Jvm.Cond.selects "java/util/TreeMap" ({ cls := "java/lang/Object", name := "getClass", desc := "()Ljava/lang/Class;" } : Jvm.MethodName) ({ cls := "java/lang/Object", name := "getClass", desc := "()Ljava/lang/Class;" } : Jvm.MethodName)) ∈ lw_all := lw_g (lw_at lw_m2 10 rfl) rfl
theorem q608 : (Jvm.Cond.interfaceEntry "java/util/TreeMap" (117 : Nat)) ∈ lw_tbl := lw_at lw_m3 6 rfl
theorem q609 : (Jvm.Cond.methodLink "java/util/TreeMap" (117 : Nat) ({ cls := "java/util/Comparator", name := "compare", desc := "(Ljava/lang/Object;Ljava/lang/Object;)I" } : Jvm.MethodName)) ∈ lw_all := lw_g (lw_at lw_m3 7 rfl) rfl
theorem q634 : (Jvm.Cond.classLink "java/util/TreeMap" (59 : Nat) "java/util/TreeMap$Entry") ∈ lw_all := lw_g (lw_at lw_m3 32 rfl) rfl
theorem q636 : (Jvm.Cond.methodLink "java/util/TreeMap" (167 : Nat) ({ cls := "java/util/TreeMap$Entry", name := "<init>", desc := "(Ljava/lang/Object;Ljava/lang/Object;Ljava/util/TreeMap$Entry;)V" } : Jvm.MethodName)) ∈ lw_all := lw_g (lw_at lw_m3 34 rfl) rfl
theorem q642 : (Jvm.Cond.fieldLink "java/util/TreeMap" (105 : Nat) "java/util/TreeMap$Entry" "key" "Ljava/lang/Object;") ∈ lw_all := lw_g (lw_at lw_m3 40 rfl) rfl
theorem q644 : (Jvm.Cond.fieldLink "java/util/TreeMap" (58 : Nat) "java/util/TreeMap$Entry" "value" "Ljava/lang/Object;") ∈ lw_all := lw_g (lw_at lw_m3 42 rfl) rfl
theorem q645 : (Jvm.Cond.fieldLink "java/util/TreeMap" (111 : Nat) "java/util/TreeMap$Entry" "left" "Ljava/util/TreeMap$Entry;") ∈ lw_all := lw_g (lw_at lw_m3 43 rfl) rfl
theorem q646 : (Jvm.Cond.fieldLink "java/util/TreeMap" (114 : Nat) "java/util/TreeMap$Entry" "right" "Ljava/util/TreeMap$Entry;") ∈ lw_all := lw_g (lw_at lw_m3 44 rfl) rfl
theorem q648 : (Jvm.Cond.fieldLink "java/util/TreeMap" (124 : Nat) "java/util/TreeMap$Entry" "parent" "Ljava/util/TreeMap$Entry;") ∈ lw_all := lw_g (lw_at lw_m3 46 rfl) rfl
theorem q650 : (Jvm.Cond.fieldLink "java/util/TreeMap" (290 : Nat) "java/util/TreeMap$Entry" "color" "Z") ∈ lw_all := lw_g (lw_at lw_m3 48 rfl) rfl
theorem q664 : (Jvm.Cond.methodLink "java/util/TreeMap" (95 : Nat) ({ cls := "java/util/Objects", name := "requireNonNull", desc := "(Ljava/lang/Object;)Ljava/lang/Object;" } : Jvm.MethodName)) ∈ lw_all := lw_g (lw_at lw_m3 62 rfl) rfl
theorem q667 : (Jvm.Cond.methodLink "java/util/TreeMap" (139 : Nat) ({ cls := "java/util/TreeMap", name := "addEntry", desc := "(Ljava/lang/Object;Ljava/lang/Object;Ljava/util/TreeMap$Entry;Z)V" } : Jvm.MethodName)) ∈ lw_all := lw_g (lw_at lw_m3 65 rfl) rfl
theorem q668 : (Jvm.Cond.privateMethod ({ cls := "java/util/TreeMap", name := "addEntry", desc := "(Ljava/lang/Object;Ljava/lang/Object;Ljava/util/TreeMap$Entry;Z)V" } : Jvm.MethodName)) ∈ lw_tbl := lw_at lw_m3 66 rfl
theorem q669 : (Jvm.Cond.instanceMethod ({ cls := "java/util/TreeMap", name := "addEntry", desc := "(Ljava/lang/Object;Ljava/lang/Object;Ljava/util/TreeMap$Entry;Z)V" } : Jvm.MethodName)) ∈ lw_all := lw_g (lw_at lw_m3 67 rfl) rfl
theorem q670 : (Jvm.Cond.code ({ cls := "java/util/TreeMap", name := "addEntry", desc := "(Ljava/lang/Object;Ljava/lang/Object;Ljava/util/TreeMap$Entry;Z)V" } : Jvm.MethodName) prog_81_method_29_code (6 : Nat) (Option.none : Option Jvm.ClassFile.FieldType)) ∈ lw_all := lw_g (lw_at lw_m3 68 rfl) rfl
theorem q671 : (Jvm.Cond.methodLink "java/util/TreeMap" (170 : Nat) ({ cls := "java/util/TreeMap", name := "fixAfterInsertion", desc := "(Ljava/util/TreeMap$Entry;)V" } : Jvm.MethodName)) ∈ lw_all := lw_g (lw_at lw_m3 69 rfl) rfl
theorem q672 : (Jvm.Cond.privateMethod ({ cls := "java/util/TreeMap", name := "fixAfterInsertion", desc := "(Ljava/util/TreeMap$Entry;)V" } : Jvm.MethodName)) ∈ lw_tbl := lw_at lw_m3 70 rfl
theorem q673 : (Jvm.Cond.instanceMethod ({ cls := "java/util/TreeMap", name := "fixAfterInsertion", desc := "(Ljava/util/TreeMap$Entry;)V" } : Jvm.MethodName)) ∈ lw_all := lw_g (lw_at lw_m3 71 rfl) rfl
theorem q674 : (Jvm.Cond.code ({ cls := "java/util/TreeMap", name := "fixAfterInsertion", desc := "(Ljava/util/TreeMap$Entry;)V" } : Jvm.MethodName) prog_81_method_83_code (3 : Nat) (Option.none : Option Jvm.ClassFile.FieldType)) ∈ lw_all := lw_g (lw_at lw_m3 72 rfl) rfl
theorem q675 : (Jvm.Cond.methodLink "java/util/TreeMap" (294 : Nat) ({ cls := "java/util/TreeMap", name := "parentOf", desc := "(Ljava/util/TreeMap$Entry;)Ljava/util/TreeMap$Entry;" } : Jvm.MethodName)) ∈ lw_all := lw_g (lw_at lw_m3 73 rfl) rfl
theorem q676 : (Jvm.Cond.static ({ cls := "java/util/TreeMap", name := "parentOf", desc := "(Ljava/util/TreeMap$Entry;)Ljava/util/TreeMap$Entry;" } : Jvm.MethodName)) ∈ lw_all := lw_g (lw_at lw_m3 74 rfl) rfl
theorem q677 : (Jvm.Cond.code ({ cls := "java/util/TreeMap", name := "parentOf", desc := "(Ljava/util/TreeMap$Entry;)Ljava/util/TreeMap$Entry;" } : Jvm.MethodName) prog_81_method_77_code (1 : Nat) (Option.some (Jvm.ClassFile.FieldType.object "java/util/TreeMap$Entry"))) ∈ lw_all := lw_g (lw_at lw_m3 75 rfl) rfl
theorem q678 : (Jvm.Cond.methodLink "java/util/TreeMap" (297 : Nat) ({ cls := "java/util/TreeMap", name := "leftOf", desc := "(Ljava/util/TreeMap$Entry;)Ljava/util/TreeMap$Entry;" } : Jvm.MethodName)) ∈ lw_all := lw_g (lw_at lw_m3 76 rfl) rfl
theorem q679 : (Jvm.Cond.static ({ cls := "java/util/TreeMap", name := "leftOf", desc := "(Ljava/util/TreeMap$Entry;)Ljava/util/TreeMap$Entry;" } : Jvm.MethodName)) ∈ lw_all := lw_g (lw_at lw_m3 77 rfl) rfl
theorem q680 : (Jvm.Cond.code ({ cls := "java/util/TreeMap", name := "leftOf", desc := "(Ljava/util/TreeMap$Entry;)Ljava/util/TreeMap$Entry;" } : Jvm.MethodName) prog_81_method_79_code (1 : Nat) (Option.some (Jvm.ClassFile.FieldType.object "java/util/TreeMap$Entry"))) ∈ lw_all := lw_g (lw_at lw_m3 78 rfl) rfl
theorem q681 : (Jvm.Cond.methodLink "java/util/TreeMap" (300 : Nat) ({ cls := "java/util/TreeMap", name := "rightOf", desc := "(Ljava/util/TreeMap$Entry;)Ljava/util/TreeMap$Entry;" } : Jvm.MethodName)) ∈ lw_all := lw_g (lw_at lw_m3 79 rfl) rfl
theorem q682 : (Jvm.Cond.static ({ cls := "java/util/TreeMap", name := "rightOf", desc := "(Ljava/util/TreeMap$Entry;)Ljava/util/TreeMap$Entry;" } : Jvm.MethodName)) ∈ lw_all := lw_g (lw_at lw_m3 80 rfl) rfl
theorem q683 : (Jvm.Cond.code ({ cls := "java/util/TreeMap", name := "rightOf", desc := "(Ljava/util/TreeMap$Entry;)Ljava/util/TreeMap$Entry;" } : Jvm.MethodName) prog_81_method_80_code (1 : Nat) (Option.some (Jvm.ClassFile.FieldType.object "java/util/TreeMap$Entry"))) ∈ lw_all := lw_g (lw_at lw_m3 81 rfl) rfl
theorem q684 : (Jvm.Cond.methodLink "java/util/TreeMap" (303 : Nat) ({ cls := "java/util/TreeMap", name := "colorOf", desc := "(Ljava/util/TreeMap$Entry;)Z" } : Jvm.MethodName)) ∈ lw_all := lw_g (lw_at lw_m3 82 rfl) rfl
theorem q685 : (Jvm.Cond.static ({ cls := "java/util/TreeMap", name := "colorOf", desc := "(Ljava/util/TreeMap$Entry;)Z" } : Jvm.MethodName)) ∈ lw_all := lw_g (lw_at lw_m3 83 rfl) rfl
theorem q686 : (Jvm.Cond.code ({ cls := "java/util/TreeMap", name := "colorOf", desc := "(Ljava/util/TreeMap$Entry;)Z" } : Jvm.MethodName) prog_81_method_76_code (1 : Nat) (Option.some Jvm.ClassFile.FieldType.boolean)) ∈ lw_all := lw_g (lw_at lw_m3 84 rfl) rfl
theorem q687 : (Jvm.Cond.methodLink "java/util/TreeMap" (307 : Nat) ({ cls := "java/util/TreeMap", name := "setColor", desc := "(Ljava/util/TreeMap$Entry;Z)V" } : Jvm.MethodName)) ∈ lw_all := lw_g (lw_at lw_m3 85 rfl) rfl
theorem q688 : (Jvm.Cond.static ({ cls := "java/util/TreeMap", name := "setColor", desc := "(Ljava/util/TreeMap$Entry;Z)V" } : Jvm.MethodName)) ∈ lw_all := lw_g (lw_at lw_m3 86 rfl) rfl
theorem q689 : (Jvm.Cond.code ({ cls := "java/util/TreeMap", name := "setColor", desc := "(Ljava/util/TreeMap$Entry;Z)V" } : Jvm.MethodName) prog_81_method_78_code (2 : Nat) (Option.none : Option Jvm.ClassFile.FieldType)) ∈ lw_all := lw_g (lw_at lw_m3 87 rfl) rfl
theorem q690 : (Jvm.Cond.methodLink "java/util/TreeMap" (311 : Nat) ({ cls := "java/util/TreeMap", name := "rotateLeft", desc := "(Ljava/util/TreeMap$Entry;)V" } : Jvm.MethodName)) ∈ lw_all := lw_g (lw_at lw_m3 88 rfl) rfl
theorem q691 : (Jvm.Cond.privateMethod ({ cls := "java/util/TreeMap", name := "rotateLeft", desc := "(Ljava/util/TreeMap$Entry;)V" } : Jvm.MethodName)) ∈ lw_tbl := lw_at lw_m3 89 rfl
theorem q692 : (Jvm.Cond.instanceMethod ({ cls := "java/util/TreeMap", name := "rotateLeft", desc := "(Ljava/util/TreeMap$Entry;)V" } : Jvm.MethodName)) ∈ lw_all := lw_g (lw_at lw_m3 90 rfl) rfl
theorem q693 : (Jvm.Cond.code ({ cls := "java/util/TreeMap", name := "rotateLeft", desc := "(Ljava/util/TreeMap$Entry;)V" } : Jvm.MethodName) prog_81_method_81_code (3 : Nat) (Option.none : Option Jvm.ClassFile.FieldType)) ∈ lw_all := lw_g (lw_at lw_m3 91 rfl) rfl
theorem q694 : (Jvm.Cond.methodLink "java/util/TreeMap" (314 : Nat) ({ cls := "java/util/TreeMap", name := "rotateRight", desc := "(Ljava/util/TreeMap$Entry;)V" } : Jvm.MethodName)) ∈ lw_all := lw_g (lw_at lw_m3 92 rfl) rfl
theorem q695 : (Jvm.Cond.privateMethod ({ cls := "java/util/TreeMap", name := "rotateRight", desc := "(Ljava/util/TreeMap$Entry;)V" } : Jvm.MethodName)) ∈ lw_tbl := lw_at lw_m3 93 rfl
theorem q696 : (Jvm.Cond.instanceMethod ({ cls := "java/util/TreeMap", name := "rotateRight", desc := "(Ljava/util/TreeMap$Entry;)V" } : Jvm.MethodName)) ∈ lw_all := lw_g (lw_at lw_m3 94 rfl) rfl
theorem q697 : (Jvm.Cond.code ({ cls := "java/util/TreeMap", name := "rotateRight", desc := "(Ljava/util/TreeMap$Entry;)V" } : Jvm.MethodName) prog_81_method_82_code (3 : Nat) (Option.none : Option Jvm.ClassFile.FieldType)) ∈ lw_all := lw_g (lw_at lw_m3 95 rfl) rfl
theorem q726 : (Jvm.Cond.instanceMethod ({ cls := "java/util/TreeMap", name := "putAll", desc := "(Ljava/util/Map;)V" } : Jvm.MethodName)) ∈ lw_all := lw_g (lw_at lw_m3 124 rfl) rfl
theorem q727 : (Jvm.Cond.selects "java/util/TreeMap" ({ cls := "java/util/TreeMap", name := "putAll", desc := "(Ljava/util/Map;)V" } : Jvm.MethodName) ({ cls := "java/util/TreeMap", name := "putAll", desc := "(Ljava/util/Map;)V" } : Jvm.MethodName)) ∈ lw_all := lw_g (lw_at lw_m3 125 rfl) rfl
theorem q728 : (Jvm.Cond.codeWith ({ cls := "java/util/TreeMap", name := "putAll", desc := "(Ljava/util/Map;)V" } : Jvm.MethodName) prog_81_method_14_code (4 : Nat) (Option.none : Option Jvm.ClassFile.FieldType) [((54 : Nat), (72 : Nat), (75 : Nat), (46 : Nat)), ((54 : Nat), (72 : Nat), (75 : Nat), (48 : Nat))]) ∈ lw_all := lw_g (lw_at lw_m3 126 rfl) rfl
theorem q729 : (Jvm.Cond.interfaceEntry "java/util/TreeMap" (82 : Nat)) ∈ lw_tbl := lw_at lw_m3 127 rfl
theorem q730 : (Jvm.Cond.methodLink "java/util/TreeMap" (82 : Nat) ({ cls := "java/util/Map", name := "size", desc := "()I" } : Jvm.MethodName)) ∈ lw_all := lw_g (lw_at lw_m3 128 rfl) rfl
theorem q733 : (Jvm.Cond.castable "java/util/TreeMap" "java/util/Map") ∈ lw_tbl := lw_at lw_m3 131 rfl
theorem q734 : (Jvm.Cond.selects "java/util/TreeMap" ({ cls := "java/util/Map", name := "size", desc := "()I" } : Jvm.MethodName) ({ cls := "java/util/TreeMap", name := "size", desc := "()I" } : Jvm.MethodName)) ∈ lw_all := lw_g (lw_at lw_m3 132 rfl) rfl
theorem q735 : (Jvm.Cond.unhidden "java/util/TreeMap" "size" "()I") ∈ lw_tbl := lw_at lw_m3 133 rfl
theorem q736 : (Jvm.Cond.instanceMethod ({ cls := "java/util/TreeMap", name := "size", desc := "()I" } : Jvm.MethodName)) ∈ lw_all := lw_g (lw_at lw_m3 134 rfl) rfl
theorem q737 : (Jvm.Cond.publicMethod ({ cls := "java/util/TreeMap", name := "size", desc := "()I" } : Jvm.MethodName)) ∈ lw_tbl := lw_at lw_m3 135 rfl
theorem q738 : (Jvm.Cond.code ({ cls := "java/util/TreeMap", name := "size", desc := "()I" } : Jvm.MethodName) prog_81_method_5_code (1 : Nat) (Option.some Jvm.ClassFile.FieldType.int)) ∈ lw_all := lw_g (lw_at lw_m3 136 rfl) rfl
theorem q739 : (Jvm.Cond.classLink "java/util/TreeMap" (25 : Nat) "java/util/SortedMap") ∈ lw_all := lw_g (lw_at lw_m3 137 rfl) rfl
theorem q740 : (Jvm.Cond.interfaceEntry "java/util/TreeMap" (24 : Nat)) ∈ lw_tbl := lw_at lw_m3 138 rfl
theorem q741 : (Jvm.Cond.methodLink "java/util/TreeMap" (24 : Nat) ({ cls := "java/util/SortedMap", name := "comparator", desc := "()Ljava/util/Comparator;" } : Jvm.MethodName)) ∈ lw_all := lw_g (lw_at lw_m3 139 rfl) rfl
theorem q744 : (Jvm.Cond.castable "java/util/TreeMap" "java/util/SortedMap") ∈ lw_tbl := lw_at lw_m3 142 rfl
theorem q745 : (Jvm.Cond.selects "java/util/TreeMap" ({ cls := "java/util/SortedMap", name := "comparator", desc := "()Ljava/util/Comparator;" } : Jvm.MethodName) ({ cls := "java/util/TreeMap", name := "comparator", desc := "()Ljava/util/Comparator;" } : Jvm.MethodName)) ∈ lw_all := lw_g (lw_at lw_m3 143 rfl) rfl
theorem q746 : (Jvm.Cond.unhidden "java/util/TreeMap" "comparator" "()Ljava/util/Comparator;") ∈ lw_tbl := lw_at lw_m3 144 rfl
theorem q747 : (Jvm.Cond.instanceMethod ({ cls := "java/util/TreeMap", name := "comparator", desc := "()Ljava/util/Comparator;" } : Jvm.MethodName)) ∈ lw_all := lw_g (lw_at lw_m3 145 rfl) rfl
theorem q748 : (Jvm.Cond.publicMethod ({ cls := "java/util/TreeMap", name := "comparator", desc := "()Ljava/util/Comparator;" } : Jvm.MethodName)) ∈ lw_tbl := lw_at lw_m3 146 rfl
theorem q749 : (Jvm.Cond.code ({ cls := "java/util/TreeMap", name := "comparator", desc := "()Ljava/util/Comparator;" } : Jvm.MethodName) prog_81_method_9_code (1 : Nat) (Option.some (Jvm.ClassFile.FieldType.object "java/util/Comparator"))) ∈ lw_all := lw_g (lw_at lw_m3 147 rfl) rfl
theorem q750 : (Jvm.Cond.methodLink "java/util/TreeMap" (85 : Nat) ({ cls := "java/util/Objects", name := "equals", desc := "(Ljava/lang/Object;Ljava/lang/Object;)Z" } : Jvm.MethodName)) ∈ lw_all := lw_g (lw_at lw_m3 148 rfl) rfl
theorem q802 : (Jvm.Cond.interfaceEntry "java/util/TreeMap" (90 : Nat)) ∈ lw_tbl := lw_at lw_m3 200 rfl
theorem q803 : (Jvm.Cond.methodLink "java/util/TreeMap" (90 : Nat) ({ cls := "java/util/Map", name := "entrySet", desc := "()Ljava/util/Set;" } : Jvm.MethodName)) ∈ lw_all := lw_g (lw_at lw_m3 201 rfl) rfl
theorem q806 : (Jvm.Cond.selects "java/util/TreeMap" ({ cls := "java/util/Map", name := "entrySet", desc := "()Ljava/util/Set;" } : Jvm.MethodName) ({ cls := "java/util/TreeMap", name := "entrySet", desc := "()Ljava/util/Set;" } : Jvm.MethodName)) ∈ lw_all := lw_g (lw_at lw_m3 204 rfl) rfl
theorem q807 : (Jvm.Cond.unhidden "java/util/TreeMap" "entrySet" "()Ljava/util/Set;") ∈ lw_tbl := lw_at lw_m3 205 rfl
theorem q808 : (Jvm.Cond.instanceMethod ({ cls := "java/util/TreeMap", name := "entrySet", desc := "()Ljava/util/Set;" } : Jvm.MethodName)) ∈ lw_all := lw_g (lw_at lw_m3 206 rfl) rfl
theorem q809 : (Jvm.Cond.publicMethod ({ cls := "java/util/TreeMap", name := "entrySet", desc := "()Ljava/util/Set;" } : Jvm.MethodName)) ∈ lw_tbl := lw_at lw_m3 207 rfl
theorem q810 : (Jvm.Cond.code ({ cls := "java/util/TreeMap", name := "entrySet", desc := "()Ljava/util/Set;" } : Jvm.MethodName) prog_81_method_53_code (2 : Nat) (Option.some (Jvm.ClassFile.FieldType.object "java/util/Set"))) ∈ lw_all := lw_g (lw_at lw_m3 208 rfl) rfl
theorem q811 : (Jvm.Cond.classLink "java/util/TreeMap" (242 : Nat) "java/util/TreeMap$EntrySet") ∈ lw_all := lw_g (lw_at lw_m3 209 rfl) rfl
theorem q813 : (Jvm.Cond.methodLink "java/util/TreeMap" (244 : Nat) ({ cls := "java/util/TreeMap$EntrySet", name := "<init>", desc := "(Ljava/util/TreeMap;)V" } : Jvm.MethodName)) ∈ lw_all := lw_g (lw_at lw_m3 211 rfl) rfl
theorem q824 : (Jvm.Cond.interfaceEntry "java/util/TreeMap" (36 : Nat)) ∈ lw_tbl := lw_at lw_m3 222 rfl
theorem q825 : (Jvm.Cond.methodLink "java/util/TreeMap" (36 : Nat) ({ cls := "java/util/Set", name := "iterator", desc := "()Ljava/util/Iterator;" } : Jvm.MethodName)) ∈ lw_all := lw_g (lw_at lw_m3 223 rfl) rfl
theorem q837 : (Jvm.Cond.instanceMethod ({ cls := "java/util/TreeMap", name := "getFirstEntry", desc := "()Ljava/util/TreeMap$Entry;" } : Jvm.MethodName)) ∈ lw_all := lw_g (lw_at lw_m3 235 rfl) rfl
theorem q838 : (Jvm.Cond.selects "java/util/TreeMap" ({ cls := "java/util/TreeMap", name := "getFirstEntry", desc := "()Ljava/util/TreeMap$Entry;" } : Jvm.MethodName) ({ cls := "java/util/TreeMap", name := "getFirstEntry", desc := "()Ljava/util/TreeMap$Entry;" } : Jvm.MethodName)) ∈ lw_all := lw_g (lw_at lw_m3 236 rfl) rfl
theorem q839 : (Jvm.Cond.code ({ cls := "java/util/TreeMap", name := "getFirstEntry", desc := "()Ljava/util/TreeMap$Entry;" } : Jvm.MethodName) prog_81_method_72_code (2 : Nat) (Option.some (Jvm.ClassFile.FieldType.object "java/util/TreeMap$Entry"))) ∈ lw_all := lw_g (lw_at lw_m3 237 rfl) rfl
theorem q868 : (Jvm.Cond.instanceMethod ({ cls := "java/util/TreeMap", name := "keyIterator", desc := "()Ljava/util/Iterator;" } : Jvm.MethodName)) ∈ lw_all := lw_g (lw_at lw_m4 26 rfl) rfl
theorem q869 : (Jvm.Cond.selects "java/util/TreeMap" ({ cls := "java/util/TreeMap", name := "keyIterator", desc := "()Ljava/util/Iterator;" } : Jvm.MethodName) ({ cls := "java/util/TreeMap", name := "keyIterator", desc := "()Ljava/util/Iterator;" } : Jvm.MethodName)) ∈ lw_all := lw_g (lw_at lw_m4 27 rfl) rfl
theorem q870 : (Jvm.Cond.code ({ cls := "java/util/TreeMap", name := "keyIterator", desc := "()Ljava/util/Iterator;" } : Jvm.MethodName) prog_81_method_65_code (1 : Nat) (Option.some (Jvm.ClassFile.FieldType.object "java/util/Iterator"))) ∈ lw_all := lw_g (lw_at lw_m4 28 rfl) rfl
theorem q871 : (Jvm.Cond.classLink "java/util/TreeMap" (269 : Nat) "java/util/TreeMap$KeyIterator") ∈ lw_all := lw_g (lw_at lw_m4 29 rfl) rfl
theorem q873 : (Jvm.Cond.methodLink "java/util/TreeMap" (54 : Nat) ({ cls := "java/util/TreeMap", name := "getFirstEntry", desc := "()Ljava/util/TreeMap$Entry;" } : Jvm.MethodName)) ∈ lw_all := lw_g (lw_at lw_m4 31 rfl) rfl
theorem q874 : (Jvm.Cond.methodLink "java/util/TreeMap" (271 : Nat) ({ cls := "java/util/TreeMap$KeyIterator", name := "<init>", desc := "(Ljava/util/TreeMap;Ljava/util/TreeMap$Entry;)V" } : Jvm.MethodName)) ∈ lw_all := lw_g (lw_at lw_m4 32 rfl) rfl
theorem q897 : (Jvm.Cond.castable "java/util/TreeMap" "java/util/NavigableMap") ∈ lw_tbl := lw_at lw_m4 55 rfl
theorem q898 : (Jvm.Cond.selects "java/util/TreeMap" ({ cls := "java/util/NavigableMap", name := "navigableKeySet", desc := "()Ljava/util/NavigableSet;" } : Jvm.MethodName) ({ cls := "java/util/TreeMap", name := "navigableKeySet", desc := "()Ljava/util/NavigableSet;" } : Jvm.MethodName)) ∈ lw_all := lw_g (lw_at lw_m4 56 rfl) rfl
theorem q899 : (Jvm.Cond.unhidden "java/util/TreeMap" "navigableKeySet" "()Ljava/util/NavigableSet;") ∈ lw_tbl := lw_at lw_m4 57 rfl
theorem q900 : (Jvm.Cond.instanceMethod ({ cls := "java/util/TreeMap", name := "navigableKeySet", desc := "()Ljava/util/NavigableSet;" } : Jvm.MethodName)) ∈ lw_all := lw_g (lw_at lw_m4 58 rfl) rfl
theorem q901 : (Jvm.Cond.publicMethod ({ cls := "java/util/TreeMap", name := "navigableKeySet", desc := "()Ljava/util/NavigableSet;" } : Jvm.MethodName)) ∈ lw_tbl := lw_at lw_m4 59 rfl
theorem q902 : (Jvm.Cond.code ({ cls := "java/util/TreeMap", name := "navigableKeySet", desc := "()Ljava/util/NavigableSet;" } : Jvm.MethodName) prog_81_method_50_code (2 : Nat) (Option.some (Jvm.ClassFile.FieldType.object "java/util/NavigableSet"))) ∈ lw_all := lw_g (lw_at lw_m4 60 rfl) rfl
theorem q903 : (Jvm.Cond.classLink "java/util/TreeMap" (222 : Nat) "java/util/TreeMap$KeySet") ∈ lw_all := lw_g (lw_at lw_m4 61 rfl) rfl
theorem q905 : (Jvm.Cond.methodLink "java/util/TreeMap" (224 : Nat) ({ cls := "java/util/TreeMap$KeySet", name := "<init>", desc := "(Ljava/util/NavigableMap;)V" } : Jvm.MethodName)) ∈ lw_all := lw_g (lw_at lw_m4 63 rfl) rfl
theorem q921 : (Jvm.Cond.methodLink "java/util/TreeMap" (42 : Nat) ({ cls := "java/util/TreeMap", name := "buildFromSorted", desc := "(ILjava/util/Iterator;Ljava/io/ObjectInputStream;Ljava/lang/Object;)V" } : Jvm.MethodName)) ∈ lw_all := lw_g (lw_at lw_m4 79 rfl) rfl
theorem q922 : (Jvm.Cond.privateMethod ({ cls := "java/util/TreeMap", name := "buildFromSorted", desc := "(ILjava/util/Iterator;Ljava/io/ObjectInputStream;Ljava/lang/Object;)V" } : Jvm.MethodName)) ∈ lw_tbl := lw_at lw_m4 80 rfl
theorem q923 : (Jvm.Cond.instanceMethod ({ cls := "java/util/TreeMap", name := "buildFromSorted", desc := "(ILjava/util/Iterator;Ljava/io/ObjectInputStream;Ljava/lang/Object;)V" } : Jvm.MethodName)) ∈ lw_all := lw_g (lw_at lw_m4 81 rfl) rfl
theorem q924 : (Jvm.Cond.code ({ cls := "java/util/TreeMap", name := "buildFromSorted", desc := "(ILjava/util/Iterator;Ljava/io/ObjectInputStream;Ljava/lang/Object;)V" } : Jvm.MethodName) prog_81_method_90_code (5 : Nat) (Option.none : Option Jvm.ClassFile.FieldType)) ∈ lw_all := lw_g (lw_at lw_m4 82 rfl) rfl
theorem q925 : (Jvm.Cond.methodLink "java/util/TreeMap" (362 : Nat) ({ cls := "java/util/TreeMap", name := "computeRedLevel", desc := "(I)I" } : Jvm.MethodName)) ∈ lw_all := lw_g (lw_at lw_m4 83 rfl) rfl
theorem q926 : (Jvm.Cond.static ({ cls := "java/util/TreeMap", name := "computeRedLevel", desc := "(I)I" } : Jvm.MethodName)) ∈ lw_all := lw_g (lw_at lw_m4 84 rfl) rfl
theorem q927 : (Jvm.Cond.code ({ cls := "java/util/TreeMap", name := "computeRedLevel", desc := "(I)I" } : Jvm.MethodName) prog_81_method_92_code (1 : Nat) (Option.some Jvm.ClassFile.FieldType.int)) ∈ lw_all := lw_g (lw_at lw_m4 85 rfl) rfl
theorem q928 : (Jvm.Cond.methodLink "java/util/TreeMap" (372 : Nat) ({ cls := "java/lang/Integer", name := "numberOfLeadingZeros", desc := "(I)I" } : Jvm.MethodName)) ∈ lw_all := lw_g (lw_at lw_m4 86 rfl) rfl
theorem q929 : (Jvm.Cond.methodLink "java/util/TreeMap" (366 : Nat) ({ cls := "java/util/TreeMap", name := "buildFromSorted", desc := "(IIIILjava/util/Iterator;Ljava/io/ObjectInputStream;Ljava/lang/Object;)Ljava/util/TreeMap$Entry;" } : Jvm.MethodName)) ∈ lw_all := lw_g (lw_at lw_m4 87 rfl) rfl
theorem q930 : (Jvm.Cond.privateMethod ({ cls := "java/util/TreeMap", name := "buildFromSorted", desc := "(IIIILjava/util/Iterator;Ljava/io/ObjectInputStream;Ljava/lang/Object;)Ljava/util/TreeMap$Entry;" } : Jvm.MethodName)) ∈ lw_tbl := lw_at lw_m4 88 rfl
theorem q931 : (Jvm.Cond.instanceMethod ({ cls := "java/util/TreeMap", name := "buildFromSorted", desc := "(IIIILjava/util/Iterator;Ljava/io/ObjectInputStream;Ljava/lang/Object;)Ljava/util/TreeMap$Entry;" } : Jvm.MethodName)) ∈ lw_all := lw_g (lw_at lw_m4 89 rfl) rfl
theorem q932 : (Jvm.Cond.code ({ cls := "java/util/TreeMap", name := "buildFromSorted", desc := "(IIIILjava/util/Iterator;Ljava/io/ObjectInputStream;Ljava/lang/Object;)Ljava/util/TreeMap$Entry;" } : Jvm.MethodName) prog_81_method_91_code (14 : Nat) (Option.some (Jvm.ClassFile.FieldType.object "java/util/TreeMap$Entry"))) ∈ lw_all := lw_g (lw_at lw_m4 90 rfl) rfl
theorem q933 : (Jvm.Cond.interfaceEntry "java/util/TreeMap" (335 : Nat)) ∈ lw_tbl := lw_at lw_m4 91 rfl
theorem q934 : (Jvm.Cond.methodLink "java/util/TreeMap" (335 : Nat) ({ cls := "java/util/Iterator", name := "next", desc := "()Ljava/lang/Object;" } : Jvm.MethodName)) ∈ lw_all := lw_g (lw_at lw_m4 92 rfl) rfl
theorem q1057 : (Jvm.Cond.static ({ cls := "java/util/TreeMap", name := "successor", desc := "(Ljava/util/TreeMap$Entry;)Ljava/util/TreeMap$Entry;" } : Jvm.MethodName)) ∈ lw_all := lw_g (lw_at lw_m4 215 rfl) rfl
theorem q1058 : (Jvm.Cond.code ({ cls := "java/util/TreeMap", name := "successor", desc := "(Ljava/util/TreeMap$Entry;)Ljava/util/TreeMap$Entry;" } : Jvm.MethodName) prog_81_method_74_code (3 : Nat) (Option.some (Jvm.ClassFile.FieldType.object "java/util/TreeMap$Entry"))) ∈ lw_all := lw_g (lw_at lw_m4 216 rfl) rfl
theorem q1068 : (Jvm.Cond.classLink "java/util/TreeMap" (338 : Nat) "java/util/Map$Entry") ∈ lw_all := lw_g (lw_at lw_m4 226 rfl) rfl
theorem q1069 : (Jvm.Cond.interfaceEntry "java/util/TreeMap" (340 : Nat)) ∈ lw_tbl := lw_at lw_m4 227 rfl
theorem q1070 : (Jvm.Cond.methodLink "java/util/TreeMap" (340 : Nat) ({ cls := "java/util/Map$Entry", name := "getKey", desc := "()Ljava/lang/Object;" } : Jvm.MethodName)) ∈ lw_all := lw_g (lw_at lw_m4 228 rfl) rfl
theorem q1079 : (Jvm.Cond.interfaceEntry "java/util/TreeMap" (347 : Nat)) ∈ lw_tbl := lw_at lw_m4 237 rfl
theorem q1080 : (Jvm.Cond.methodLink "java/util/TreeMap" (347 : Nat) ({ cls := "java/util/Map$Entry", name := "getValue", desc := "()Ljava/lang/Object;" } : Jvm.MethodName)) ∈ lw_all := lw_g (lw_at lw_m4 238 rfl) rfl
theorem q1088 : (Jvm.Cond.methodLink "java/util/TreeMap" (91 : Nat) ({ cls := "java/util/AbstractMap", name := "putAll", desc := "(Ljava/util/Map;)V" } : Jvm.MethodName)) ∈ lw_all := lw_g (lw_at lw_m5 6 rfl) rfl
theorem q1130 : (Jvm.Cond.selects "java/util/TreeMap" ({ cls := "java/util/AbstractMap", name := "put", desc := "(Ljava/lang/Object;Ljava/lang/Object;)Ljava/lang/Object;" } : Jvm.MethodName) ({ cls := "java/util/TreeMap", name := "put", desc := "(Ljava/lang/Object;Ljava/lang/Object;)Ljava/lang/Object;" } : Jvm.MethodName)) ∈ lw_all := lw_g (lw_at lw_m5 48 rfl) rfl
theorem q1133 : (Jvm.Cond.instanceMethod ({ cls := "java/util/TreeMap", name := "get", desc := "(Ljava/lang/Object;)Ljava/lang/Object;" } : Jvm.MethodName)) ∈ lw_all := lw_g (lw_at lw_m5 51 rfl) rfl
theorem q1134 : (Jvm.Cond.selects "java/util/TreeMap" ({ cls := "java/util/TreeMap", name := "get", desc := "(Ljava/lang/Object;)Ljava/lang/Object;" } : Jvm.MethodName) ({ cls := "java/util/TreeMap", name := "get", desc := "(Ljava/lang/Object;)Ljava/lang/Object;" } : Jvm.MethodName)) ∈ lw_all := lw_g (lw_at lw_m5 52 rfl) rfl
theorem q1135 : (Jvm.Cond.code ({ cls := "java/util/TreeMap", name := "get", desc := "(Ljava/lang/Object;)Ljava/lang/Object;" } : Jvm.MethodName) prog_81_method_8_code (3 : Nat) (Option.some (Jvm.ClassFile.FieldType.object "java/lang/Object"))) ∈ lw_all := lw_g (lw_at lw_m5 53 rfl) rfl
theorem q1136 : (Jvm.Cond.methodLink "java/util/TreeMap" (50 : Nat) ({ cls := "java/util/TreeMap", name := "getEntry", desc := "(Ljava/lang/Object;)Ljava/util/TreeMap$Entry;" } : Jvm.MethodName)) ∈ lw_all := lw_g (lw_at lw_m5 54 rfl) rfl
theorem q1137 : (Jvm.Cond.instanceMethod ({ cls := "java/util/TreeMap", name := "getEntry", desc := "(Ljava/lang/Object;)Ljava/util/TreeMap$Entry;" } : Jvm.MethodName)) ∈ lw_all := lw_g (lw_at lw_m5 55 rfl) rfl
theorem q1138 : (Jvm.Cond.selects "java/util/TreeMap" ({ cls := "java/util/TreeMap", name := "getEntry", desc := "(Ljava/lang/Object;)Ljava/util/TreeMap$Entry;" } : Jvm.MethodName) ({ cls := "java/util/TreeMap", name := "getEntry", desc := "(Ljava/lang/Object;)Ljava/util/TreeMap$Entry;" } : Jvm.MethodName)) ∈ lw_all := lw_g (lw_at lw_m5 56 rfl) rfl
theorem q1139 : (Jvm.Cond.code ({ cls := "java/util/TreeMap", name := "getEntry", desc := "(Ljava/lang/Object;)Ljava/util/TreeMap$Entry;" } : Jvm.MethodName) prog_81_method_15_code (5 : Nat) (Option.some (Jvm.ClassFile.FieldType.object "java/util/TreeMap$Entry"))) ∈ lw_all := lw_g (lw_at lw_m5 57 rfl) rfl
theorem q1140 : (Jvm.Cond.methodLink "java/util/TreeMap" (92 : Nat) ({ cls := "java/util/TreeMap", name := "getEntryUsingComparator", desc := "(Ljava/lang/Object;)Ljava/util/TreeMap$Entry;" } : Jvm.MethodName)) ∈ lw_all := lw_g (lw_at lw_m5 58 rfl) rfl
theorem q1141 : (Jvm.Cond.instanceMethod ({ cls := "java/util/TreeMap", name := "getEntryUsingComparator", desc := "(Ljava/lang/Object;)Ljava/util/TreeMap$Entry;" } : Jvm.MethodName)) ∈ lw_all := lw_g (lw_at lw_m5 59 rfl) rfl
theorem q1142 : (Jvm.Cond.selects "java/util/TreeMap" ({ cls := "java/util/TreeMap", name := "getEntryUsingComparator", desc := "(Ljava/lang/Object;)Ljava/util/TreeMap$Entry;" } : Jvm.MethodName) ({ cls := "java/util/TreeMap", name := "getEntryUsingComparator", desc := "(Ljava/lang/Object;)Ljava/util/TreeMap$Entry;" } : Jvm.MethodName)) ∈ lw_all := lw_g (lw_at lw_m5 60 rfl) rfl
theorem q1143 : (Jvm.Cond.code ({ cls := "java/util/TreeMap", name := "getEntryUsingComparator", desc := "(Ljava/lang/Object;)Ljava/util/TreeMap$Entry;" } : Jvm.MethodName) prog_81_method_16_code (6 : Nat) (Option.some (Jvm.ClassFile.FieldType.object "java/util/TreeMap$Entry"))) ∈ lw_all := lw_g (lw_at lw_m5 61 rfl) rfl
theorem q1399 : (Jvm.Cond.selects "java/util/TreeMap" ({ cls := "java/util/Map", name := "put", desc := "(Ljava/lang/Object;Ljava/lang/Object;)Ljava/lang/Object;" } : Jvm.MethodName) ({ cls := "java/util/TreeMap", name := "put", desc := "(Ljava/lang/Object;Ljava/lang/Object;)Ljava/lang/Object;" } : Jvm.MethodName)) ∈ lw_all := lw_g (lw_at lw_m6 77 rfl) rfl
theorem q1400 : (Jvm.Cond.unhidden "java/util/TreeMap" "put" "(Ljava/lang/Object;Ljava/lang/Object;)Ljava/lang/Object;") ∈ lw_tbl := lw_at lw_m6 78 rfl
theorem q1401 : (Jvm.Cond.publicMethod ({ cls := "java/util/TreeMap", name := "put", desc := "(Ljava/lang/Object;Ljava/lang/Object;)Ljava/lang/Object;" } : Jvm.MethodName)) ∈ lw_tbl := lw_at lw_m6 79 rfl
theorem q3446 : (Jvm.Cond.selects "java/util/TreeMap" ({ cls := "java/util/TreeMap", name := "size", desc := "()I" } : Jvm.MethodName) ({ cls := "java/util/TreeMap", name := "size", desc := "()I" } : Jvm.MethodName)) ∈ lw_all := lw_g (lw_at lw_m14 204 rfl) rfl
theorem q3465 : (Jvm.Cond.castable "java/util/TreeMap" "java/lang/Object") ∈ lw_tbl := lw_at lw_m14 223 rfl
theorem in_J1 : ∀ w ∈ wsJ10, w ∈ lw_all := lw_in wsJ10 [234, 236, 220, 222, 224, 226, 228, 230, 232] (by decide +kernel) (by decide +kernel)

/-! jdk/internal/util/ArraysSupport -/
set_option maxRecDepth 100000
def RJ10 : String := "jdk/internal/util/ArraysSupport"
abbrev cJ10_newLength : ByteArray := prog_92_method_27_code
def yJ10_newLength : MethodName := ⟨RJ10, "newLength", "(III)I"⟩
def dkwJ10_newLength_1 : List UInt8 := [184, 0, 201, 172]
abbrev dktJ10_newLength_1 : List UInt8 := dkwJ10_newLength_1 ++ []
def dkwJ10_newLength_0 : List UInt8 := [26, 27, 28, 184, 0, 194, 96, 62, 3, 29, 162, 0, 11, 29, 18, 200, 163, 0, 5, 29, 172, 26, 27]
abbrev dktJ10_newLength_0 : List UInt8 := dkwJ10_newLength_0 ++ dktJ10_newLength_1
theorem dksJ10_newLength_0 : cJ10_newLength.data.toList.drop 0 = dktJ10_newLength_0 := by decide +kernel
theorem dksJ10_newLength_1 : cJ10_newLength.data.toList.drop 23 = dktJ10_newLength_1 := dk_seg dksJ10_newLength_0 23 rfl rfl
theorem dJ10_newLength_0 : decode cJ10_newLength 0 = .ok (.iload_n 0, 1) := dk_26 (dk_at dksJ10_newLength_0 0 rfl rfl)
theorem dJ10_newLength_1 : decode cJ10_newLength 1 = .ok (.iload_n 1, 1) := dk_27 (dk_at dksJ10_newLength_0 1 rfl rfl)
theorem dJ10_newLength_2 : decode cJ10_newLength 2 = .ok (.iload_n 2, 1) := dk_28 (dk_at dksJ10_newLength_0 2 rfl rfl)
theorem dJ10_newLength_3 : decode cJ10_newLength 3 = .ok (.invokestatic 194, 3) := dk_184 0 194 (dk_at dksJ10_newLength_0 3 rfl rfl)
theorem dJ10_newLength_6 : decode cJ10_newLength 6 = .ok (.iadd, 1) := dk_96 (dk_at dksJ10_newLength_0 6 rfl rfl)
theorem dJ10_newLength_7 : decode cJ10_newLength 7 = .ok (.istore_n 3, 1) := dk_62 (dk_at dksJ10_newLength_0 7 rfl rfl)
theorem dJ10_newLength_8 : decode cJ10_newLength 8 = .ok (.iconst 0, 1) := dk_3 (dk_at dksJ10_newLength_0 8 rfl rfl)
theorem dJ10_newLength_9 : decode cJ10_newLength 9 = .ok (.iload_n 3, 1) := dk_29 (dk_at dksJ10_newLength_0 9 rfl rfl)
theorem dJ10_newLength_10 : decode cJ10_newLength 10 = .ok (.if_icmp .ge 11, 3) := dk_162 0 11 (dk_at dksJ10_newLength_0 10 rfl rfl)
theorem dJ10_newLength_13 : decode cJ10_newLength 13 = .ok (.iload_n 3, 1) := dk_29 (dk_at dksJ10_newLength_0 13 rfl rfl)
theorem dJ10_newLength_14 : decode cJ10_newLength 14 = .ok (.ldc 200, 2) := dk_18 200 (dk_at dksJ10_newLength_0 14 rfl rfl)
theorem dJ10_newLength_16 : decode cJ10_newLength 16 = .ok (.if_icmp .gt 5, 3) := dk_163 0 5 (dk_at dksJ10_newLength_0 16 rfl rfl)
theorem dJ10_newLength_19 : decode cJ10_newLength 19 = .ok (.iload_n 3, 1) := dk_29 (dk_at dksJ10_newLength_0 19 rfl rfl)
theorem dJ10_newLength_20 : decode cJ10_newLength 20 = .ok (.ireturn, 1) := dk_172 (dk_at dksJ10_newLength_0 20 rfl rfl)
theorem dJ10_newLength_21 : decode cJ10_newLength 21 = .ok (.iload_n 0, 1) := dk_26 (dk_at dksJ10_newLength_0 21 rfl rfl)
theorem dJ10_newLength_22 : decode cJ10_newLength 22 = .ok (.iload_n 1, 1) := dk_27 (dk_at dksJ10_newLength_0 22 rfl rfl)
theorem dJ10_newLength_23 : decode cJ10_newLength 23 = .ok (.invokestatic 201, 3) := dk_184 0 201 (dk_at dksJ10_newLength_1 0 rfl rfl)
theorem dJ10_newLength_26 : decode cJ10_newLength 26 = .ok (.ireturn, 1) := dk_172 (dk_at dksJ10_newLength_1 3 rfl rfl)
theorem q136 : (Jvm.Cond.initialized "jdk/internal/util/ArraysSupport") ∈ lw_all := lw_g (lw_at lw_m1 14 rfl) rfl
theorem q424 : (Jvm.Cond.static ({ cls := "jdk/internal/util/ArraysSupport", name := "mismatch", desc := "([B[BI)I" } : Jvm.MethodName)) ∈ lw_all := lw_g (lw_at lw_m2 62 rfl) rfl
theorem q425 : (Jvm.Cond.code ({ cls := "jdk/internal/util/ArraysSupport", name := "mismatch", desc := "([B[BI)I" } : Jvm.MethodName) prog_92_method_13_code (4 : Nat) (Option.some Jvm.ClassFile.FieldType.int)) ∈ lw_all := lw_g (lw_at lw_m2 63 rfl) rfl
theorem q426 : (Jvm.Cond.fieldLink "jdk/internal/util/ArraysSupport" (126 : Nat) "jdk/internal/misc/Unsafe" "ARRAY_BYTE_BASE_OFFSET" "I") ∈ lw_all := lw_g (lw_at lw_m2 64 rfl) rfl
theorem q428 : (Jvm.Cond.fieldLink "jdk/internal/util/ArraysSupport" (129 : Nat) "jdk/internal/util/ArraysSupport" "LOG2_ARRAY_BYTE_INDEX_SCALE" "I") ∈ lw_all := lw_g (lw_at lw_m2 66 rfl) rfl
theorem q429 : (Jvm.Cond.laysStatic "jdk/internal/util/ArraysSupport" "LOG2_ARRAY_BYTE_INDEX_SCALE" "I") ∈ lw_tbl := lw_at lw_m2 67 rfl
theorem q430 : (Jvm.Cond.methodLink "jdk/internal/util/ArraysSupport" (122 : Nat) ({ cls := "jdk/internal/util/ArraysSupport", name := "vectorizedMismatch", desc := "(Ljava/lang/Object;JLjava/lang/Object;JII)I" } : Jvm.MethodName)) ∈ lw_all := lw_g (lw_at lw_m2 68 rfl) rfl
theorem q431 : (Jvm.Cond.static ({ cls := "jdk/internal/util/ArraysSupport", name := "vectorizedMismatch", desc := "(Ljava/lang/Object;JLjava/lang/Object;JII)I" } : Jvm.MethodName)) ∈ lw_all := lw_g (lw_at lw_m2 69 rfl) rfl
theorem q432 : (Jvm.Cond.code ({ cls := "jdk/internal/util/ArraysSupport", name := "vectorizedMismatch", desc := "(Ljava/lang/Object;JLjava/lang/Object;JII)I" } : Jvm.MethodName) prog_92_method_3_code (19 : Nat) (Option.some Jvm.ClassFile.FieldType.int)) ∈ lw_all := lw_g (lw_at lw_m2 70 rfl) rfl
theorem q433 : (Jvm.Cond.fieldLink "jdk/internal/util/ArraysSupport" (20 : Nat) "jdk/internal/util/ArraysSupport" "LOG2_ARRAY_LONG_INDEX_SCALE" "I") ∈ lw_all := lw_g (lw_at lw_m2 71 rfl) rfl
theorem q434 : (Jvm.Cond.laysStatic "jdk/internal/util/ArraysSupport" "LOG2_ARRAY_LONG_INDEX_SCALE" "I") ∈ lw_tbl := lw_at lw_m2 72 rfl
theorem q435 : (Jvm.Cond.fieldLink "jdk/internal/util/ArraysSupport" (26 : Nat) "jdk/internal/util/ArraysSupport" "U" "Ljdk/internal/misc/Unsafe;") ∈ lw_all := lw_g (lw_at lw_m2 73 rfl) rfl
theorem q436 : (Jvm.Cond.laysStatic "jdk/internal/util/ArraysSupport" "U" "Ljdk/internal/misc/Unsafe;") ∈ lw_tbl := lw_at lw_m2 74 rfl
theorem q437 : (Jvm.Cond.methodLink "jdk/internal/util/ArraysSupport" (30 : Nat) ({ cls := "jdk/internal/misc/Unsafe", name := "getLongUnaligned", desc := "(Ljava/lang/Object;J)J" } : Jvm.MethodName)) ∈ lw_all := lw_g (lw_at lw_m2 75 rfl) rfl
theorem q489 : (Jvm.Cond.fieldLink "jdk/internal/util/ArraysSupport" (36 : Nat) "jdk/internal/util/ArraysSupport" "BIG_ENDIAN" "Z") ∈ lw_all := lw_g (lw_at lw_m2 127 rfl) rfl
theorem q490 : (Jvm.Cond.laysStatic "jdk/internal/util/ArraysSupport" "BIG_ENDIAN" "Z") ∈ lw_tbl := lw_at lw_m2 128 rfl
theorem q491 : (Jvm.Cond.methodLink "jdk/internal/util/ArraysSupport" (40 : Nat) ({ cls := "java/lang/Long", name := "numberOfLeadingZeros", desc := "(J)I" } : Jvm.MethodName)) ∈ lw_all := lw_g (lw_at lw_m2 129 rfl) rfl
theorem q498 : (Jvm.Cond.fieldLink "jdk/internal/util/ArraysSupport" (46 : Nat) "jdk/internal/util/ArraysSupport" "LOG2_BYTE_BIT_SIZE" "I") ∈ lw_all := lw_g (lw_at lw_m2 136 rfl) rfl
theorem q499 : (Jvm.Cond.laysStatic "jdk/internal/util/ArraysSupport" "LOG2_BYTE_BIT_SIZE" "I") ∈ lw_tbl := lw_at lw_m2 137 rfl
theorem q500 : (Jvm.Cond.methodLink "jdk/internal/util/ArraysSupport" (49 : Nat) ({ cls := "java/lang/Long", name := "numberOfTrailingZeros", desc := "(J)I" } : Jvm.MethodName)) ∈ lw_all := lw_g (lw_at lw_m2 138 rfl) rfl
theorem q506 : (Jvm.Cond.fieldLink "jdk/internal/util/ArraysSupport" (51 : Nat) "jdk/internal/util/ArraysSupport" "LOG2_ARRAY_INT_INDEX_SCALE" "I") ∈ lw_all := lw_g (lw_at lw_m2 144 rfl) rfl
theorem q507 : (Jvm.Cond.laysStatic "jdk/internal/util/ArraysSupport" "LOG2_ARRAY_INT_INDEX_SCALE" "I") ∈ lw_tbl := lw_at lw_m2 145 rfl
theorem q508 : (Jvm.Cond.methodLink "jdk/internal/util/ArraysSupport" (54 : Nat) ({ cls := "jdk/internal/misc/Unsafe", name := "getIntUnaligned", desc := "(Ljava/lang/Object;J)I" } : Jvm.MethodName)) ∈ lw_all := lw_g (lw_at lw_m2 146 rfl) rfl
theorem q525 : (Jvm.Cond.methodLink "jdk/internal/util/ArraysSupport" (58 : Nat) ({ cls := "java/lang/Integer", name := "numberOfLeadingZeros", desc := "(I)I" } : Jvm.MethodName)) ∈ lw_all := lw_g (lw_at lw_m2 163 rfl) rfl
theorem q526 : (Jvm.Cond.methodLink "jdk/internal/util/ArraysSupport" (11 : Nat) ({ cls := "java/lang/Integer", name := "numberOfTrailingZeros", desc := "(I)I" } : Jvm.MethodName)) ∈ lw_all := lw_g (lw_at lw_m2 164 rfl) rfl
theorem q1220 : (Jvm.Cond.static ({ cls := "jdk/internal/util/ArraysSupport", name := "newLength", desc := "(III)I" } : Jvm.MethodName)) ∈ lw_all := lw_g (lw_at lw_m5 138 rfl) rfl
theorem q1221 : (Jvm.Cond.code ({ cls := "jdk/internal/util/ArraysSupport", name := "newLength", desc := "(III)I" } : Jvm.MethodName) prog_92_method_27_code (4 : Nat) (Option.some Jvm.ClassFile.FieldType.int)) ∈ lw_all := lw_g (lw_at lw_m5 139 rfl) rfl
theorem q1222 : (Jvm.Cond.methodLink "jdk/internal/util/ArraysSupport" (194 : Nat) ({ cls := "java/lang/Math", name := "max", desc := "(II)I" } : Jvm.MethodName)) ∈ lw_all := lw_g (lw_at lw_m5 140 rfl) rfl
theorem q1225 : (Jvm.Cond.constant "jdk/internal/util/ArraysSupport" (200 : Nat) (2147483639 : Int32)) ∈ lw_all := lw_g (lw_at lw_m5 143 rfl) rfl
theorem q1226 : (Jvm.Cond.methodLink "jdk/internal/util/ArraysSupport" (201 : Nat) ({ cls := "jdk/internal/util/ArraysSupport", name := "hugeLength", desc := "(II)I" } : Jvm.MethodName)) ∈ lw_all := lw_g (lw_at lw_m5 144 rfl) rfl
theorem q1227 : (Jvm.Cond.static ({ cls := "jdk/internal/util/ArraysSupport", name := "hugeLength", desc := "(II)I" } : Jvm.MethodName)) ∈ lw_all := lw_g (lw_at lw_m5 145 rfl) rfl
theorem q1228 : (Jvm.Cond.code ({ cls := "jdk/internal/util/ArraysSupport", name := "hugeLength", desc := "(II)I" } : Jvm.MethodName) prog_92_method_28_code (3 : Nat) (Option.some Jvm.ClassFile.FieldType.int)) ∈ lw_all := lw_g (lw_at lw_m5 146 rfl) rfl

/-! jdk/internal/misc/Unsafe -/
set_option maxRecDepth 100000
def RJ11 : String := "jdk/internal/misc/Unsafe"
theorem q137 : (Jvm.Cond.initialized "jdk/internal/misc/Unsafe") ∈ lw_all := lw_g (lw_at lw_m1 15 rfl) rfl
theorem q379 : (Jvm.Cond.selects "jdk/internal/misc/Unsafe" ({ cls := "java/lang/Object", name := "getClass", desc := "()Ljava/lang/Class;" } : Jvm.MethodName) ({ cls := "java/lang/Object", name := "getClass", desc := "()Ljava/lang/Class;" } : Jvm.MethodName)) ∈ lw_all := lw_g (lw_at lw_m2 17 rfl) rfl
theorem q427 : (Jvm.Cond.laysStatic "jdk/internal/misc/Unsafe" "ARRAY_BYTE_BASE_OFFSET" "I") ∈ lw_tbl := lw_at lw_m2 65 rfl
theorem q438 : (Jvm.Cond.instanceMethod ({ cls := "jdk/internal/misc/Unsafe", name := "getLongUnaligned", desc := "(Ljava/lang/Object;J)J" } : Jvm.MethodName)) ∈ lw_all := lw_g (lw_at lw_m2 76 rfl) rfl
theorem q439 : (Jvm.Cond.selects "jdk/internal/misc/Unsafe" ({ cls := "jdk/internal/misc/Unsafe", name := "getLongUnaligned", desc := "(Ljava/lang/Object;J)J" } : Jvm.MethodName) ({ cls := "jdk/internal/misc/Unsafe", name := "getLongUnaligned", desc := "(Ljava/lang/Object;J)J" } : Jvm.MethodName)) ∈ lw_all := lw_g (lw_at lw_m2 77 rfl) rfl
theorem q440 : (Jvm.Cond.code ({ cls := "jdk/internal/misc/Unsafe", name := "getLongUnaligned", desc := "(Ljava/lang/Object;J)J" } : Jvm.MethodName) prog_90_method_334_code (4 : Nat) (Option.some Jvm.ClassFile.FieldType.long)) ∈ lw_all := lw_g (lw_at lw_m2 78 rfl) rfl
theorem q441 : (Jvm.Cond.constantLong "jdk/internal/misc/Unsafe" (696 : Nat) (7 : Int64)) ∈ lw_all := lw_g (lw_at lw_m2 79 rfl) rfl
theorem q442 : (Jvm.Cond.methodLink "jdk/internal/misc/Unsafe" (27 : Nat) ({ cls := "jdk/internal/misc/Unsafe", name := "getLong", desc := "(Ljava/lang/Object;J)J" } : Jvm.MethodName)) ∈ lw_all := lw_g (lw_at lw_m2 80 rfl) rfl
theorem q443 : (Jvm.Cond.instanceMethod ({ cls := "jdk/internal/misc/Unsafe", name := "getLong", desc := "(Ljava/lang/Object;J)J" } : Jvm.MethodName)) ∈ lw_all := lw_g (lw_at lw_m2 81 rfl) rfl
theorem q444 : (Jvm.Cond.selects "jdk/internal/misc/Unsafe" ({ cls := "jdk/internal/misc/Unsafe", name := "getLong", desc := "(Ljava/lang/Object;J)J" } : Jvm.MethodName) ({ cls := "jdk/internal/misc/Unsafe", name := "getLong", desc := "(Ljava/lang/Object;J)J" } : Jvm.MethodName)) ∈ lw_all := lw_g (lw_at lw_m2 82 rfl) rfl
theorem q445 : (Jvm.Cond.native ({ cls := "jdk/internal/misc/Unsafe", name := "getLong", desc := "(Ljava/lang/Object;J)J" } : Jvm.MethodName)) ∈ lw_all := lw_g (lw_at lw_m2 83 rfl) rfl
theorem q446 : (Jvm.Cond.constantLong "jdk/internal/misc/Unsafe" (349 : Nat) (3 : Int64)) ∈ lw_all := lw_g (lw_at lw_m2 84 rfl) rfl
theorem q447 : (Jvm.Cond.methodLink "jdk/internal/misc/Unsafe" (17 : Nat) ({ cls := "jdk/internal/misc/Unsafe", name := "getInt", desc := "(Ljava/lang/Object;J)I" } : Jvm.MethodName)) ∈ lw_all := lw_g (lw_at lw_m2 85 rfl) rfl
theorem q448 : (Jvm.Cond.instanceMethod ({ cls := "jdk/internal/misc/Unsafe", name := "getInt", desc := "(Ljava/lang/Object;J)I" } : Jvm.MethodName)) ∈ lw_all := lw_g (lw_at lw_m2 86 rfl) rfl
theorem q449 : (Jvm.Cond.selects "jdk/internal/misc/Unsafe" ({ cls := "jdk/internal/misc/Unsafe", name := "getInt", desc := "(Ljava/lang/Object;J)I" } : Jvm.MethodName) ({ cls := "jdk/internal/misc/Unsafe", name := "getInt", desc := "(Ljava/lang/Object;J)I" } : Jvm.MethodName)) ∈ lw_all := lw_g (lw_at lw_m2 87 rfl) rfl
theorem q450 : (Jvm.Cond.native ({ cls := "jdk/internal/misc/Unsafe", name := "getInt", desc := "(Ljava/lang/Object;J)I" } : Jvm.MethodName)) ∈ lw_all := lw_g (lw_at lw_m2 88 rfl) rfl
theorem q451 : (Jvm.Cond.constantLong "jdk/internal/misc/Unsafe" (205 : Nat) (4 : Int64)) ∈ lw_all := lw_g (lw_at lw_m2 89 rfl) rfl
theorem q452 : (Jvm.Cond.methodLink "jdk/internal/misc/Unsafe" (698 : Nat) ({ cls := "jdk/internal/misc/Unsafe", name := "makeLong", desc := "(II)J" } : Jvm.MethodName)) ∈ lw_all := lw_g (lw_at lw_m2 90 rfl) rfl
theorem q453 : (Jvm.Cond.static ({ cls := "jdk/internal/misc/Unsafe", name := "makeLong", desc := "(II)J" } : Jvm.MethodName)) ∈ lw_all := lw_g (lw_at lw_m2 91 rfl) rfl
theorem q454 : (Jvm.Cond.code ({ cls := "jdk/internal/misc/Unsafe", name := "makeLong", desc := "(II)J" } : Jvm.MethodName) prog_90_method_353_code (2 : Nat) (Option.some Jvm.ClassFile.FieldType.long)) ∈ lw_all := lw_g (lw_at lw_m2 92 rfl) rfl
theorem q455 : (Jvm.Cond.methodLink "jdk/internal/misc/Unsafe" (791 : Nat) ({ cls := "jdk/internal/misc/Unsafe", name := "toUnsignedLong", desc := "(I)J" } : Jvm.MethodName)) ∈ lw_all := lw_g (lw_at lw_m2 93 rfl) rfl
theorem q456 : (Jvm.Cond.static ({ cls := "jdk/internal/misc/Unsafe", name := "toUnsignedLong", desc := "(I)J" } : Jvm.MethodName)) ∈ lw_all := lw_g (lw_at lw_m2 94 rfl) rfl
theorem q457 : (Jvm.Cond.code ({ cls := "jdk/internal/misc/Unsafe", name := "toUnsignedLong", desc := "(I)J" } : Jvm.MethodName) prog_90_method_370_code (1 : Nat) (Option.some Jvm.ClassFile.FieldType.long)) ∈ lw_all := lw_g (lw_at lw_m2 95 rfl) rfl
theorem q458 : (Jvm.Cond.constantLong "jdk/internal/misc/Unsafe" (812 : Nat) (4294967295 : Int64)) ∈ lw_all := lw_g (lw_at lw_m2 96 rfl) rfl
theorem q459 : (Jvm.Cond.methodLink "jdk/internal/misc/Unsafe" (784 : Nat) ({ cls := "jdk/internal/misc/Unsafe", name := "pickPos", desc := "(II)I" } : Jvm.MethodName)) ∈ lw_all := lw_g (lw_at lw_m2 97 rfl) rfl
theorem q460 : (Jvm.Cond.static ({ cls := "jdk/internal/misc/Unsafe", name := "pickPos", desc := "(II)I" } : Jvm.MethodName)) ∈ lw_all := lw_g (lw_at lw_m2 98 rfl) rfl
theorem q461 : (Jvm.Cond.code ({ cls := "jdk/internal/misc/Unsafe", name := "pickPos", desc := "(II)I" } : Jvm.MethodName) prog_90_method_350_code (2 : Nat) (Option.some Jvm.ClassFile.FieldType.int)) ∈ lw_all := lw_g (lw_at lw_m2 99 rfl) rfl
theorem q462 : (Jvm.Cond.fieldLink "jdk/internal/misc/Unsafe" (351 : Nat) "jdk/internal/misc/UnsafeConstants" "BIG_ENDIAN" "Z") ∈ lw_all := lw_g (lw_at lw_m2 100 rfl) rfl
theorem q464 : (Jvm.Cond.methodLink "jdk/internal/misc/Unsafe" (47 : Nat) ({ cls := "jdk/internal/misc/Unsafe", name := "getShort", desc := "(Ljava/lang/Object;J)S" } : Jvm.MethodName)) ∈ lw_all := lw_g (lw_at lw_m2 102 rfl) rfl
theorem q465 : (Jvm.Cond.instanceMethod ({ cls := "jdk/internal/misc/Unsafe", name := "getShort", desc := "(Ljava/lang/Object;J)S" } : Jvm.MethodName)) ∈ lw_all := lw_g (lw_at lw_m2 103 rfl) rfl
theorem q466 : (Jvm.Cond.selects "jdk/internal/misc/Unsafe" ({ cls := "jdk/internal/misc/Unsafe", name := "getShort", desc := "(Ljava/lang/Object;J)S" } : Jvm.MethodName) ({ cls := "jdk/internal/misc/Unsafe", name := "getShort", desc := "(Ljava/lang/Object;J)S" } : Jvm.MethodName)) ∈ lw_all := lw_g (lw_at lw_m2 104 rfl) rfl
theorem q467 : (Jvm.Cond.native ({ cls := "jdk/internal/misc/Unsafe", name := "getShort", desc := "(Ljava/lang/Object;J)S" } : Jvm.MethodName)) ∈ lw_all := lw_g (lw_at lw_m2 105 rfl) rfl
theorem q468 : (Jvm.Cond.constantLong "jdk/internal/misc/Unsafe" (203 : Nat) (2 : Int64)) ∈ lw_all := lw_g (lw_at lw_m2 106 rfl) rfl
theorem q469 : (Jvm.Cond.constantLong "jdk/internal/misc/Unsafe" (702 : Nat) (6 : Int64)) ∈ lw_all := lw_g (lw_at lw_m2 107 rfl) rfl
theorem q470 : (Jvm.Cond.methodLink "jdk/internal/misc/Unsafe" (704 : Nat) ({ cls := "jdk/internal/misc/Unsafe", name := "makeLong", desc := "(SSSS)J" } : Jvm.MethodName)) ∈ lw_all := lw_g (lw_at lw_m2 108 rfl) rfl
theorem q471 : (Jvm.Cond.static ({ cls := "jdk/internal/misc/Unsafe", name := "makeLong", desc := "(SSSS)J" } : Jvm.MethodName)) ∈ lw_all := lw_g (lw_at lw_m2 109 rfl) rfl
theorem q472 : (Jvm.Cond.code ({ cls := "jdk/internal/misc/Unsafe", name := "makeLong", desc := "(SSSS)J" } : Jvm.MethodName) prog_90_method_352_code (4 : Nat) (Option.some Jvm.ClassFile.FieldType.long)) ∈ lw_all := lw_g (lw_at lw_m2 110 rfl) rfl
theorem q473 : (Jvm.Cond.methodLink "jdk/internal/misc/Unsafe" (788 : Nat) ({ cls := "jdk/internal/misc/Unsafe", name := "toUnsignedLong", desc := "(S)J" } : Jvm.MethodName)) ∈ lw_all := lw_g (lw_at lw_m2 111 rfl) rfl
theorem q474 : (Jvm.Cond.static ({ cls := "jdk/internal/misc/Unsafe", name := "toUnsignedLong", desc := "(S)J" } : Jvm.MethodName)) ∈ lw_all := lw_g (lw_at lw_m2 112 rfl) rfl
theorem q475 : (Jvm.Cond.code ({ cls := "jdk/internal/misc/Unsafe", name := "toUnsignedLong", desc := "(S)J" } : Jvm.MethodName) prog_90_method_369_code (1 : Nat) (Option.some Jvm.ClassFile.FieldType.long)) ∈ lw_all := lw_g (lw_at lw_m2 113 rfl) rfl
theorem q476 : (Jvm.Cond.constantLong "jdk/internal/misc/Unsafe" (810 : Nat) (65535 : Int64)) ∈ lw_all := lw_g (lw_at lw_m2 114 rfl) rfl
theorem q477 : (Jvm.Cond.methodLink "jdk/internal/misc/Unsafe" (39 : Nat) ({ cls := "jdk/internal/misc/Unsafe", name := "getByte", desc := "(Ljava/lang/Object;J)B" } : Jvm.MethodName)) ∈ lw_all := lw_g (lw_at lw_m2 115 rfl) rfl
theorem q478 : (Jvm.Cond.instanceMethod ({ cls := "jdk/internal/misc/Unsafe", name := "getByte", desc := "(Ljava/lang/Object;J)B" } : Jvm.MethodName)) ∈ lw_all := lw_g (lw_at lw_m2 116 rfl) rfl
theorem q479 : (Jvm.Cond.selects "jdk/internal/misc/Unsafe" ({ cls := "jdk/internal/misc/Unsafe", name := "getByte", desc := "(Ljava/lang/Object;J)B" } : Jvm.MethodName) ({ cls := "jdk/internal/misc/Unsafe", name := "getByte", desc := "(Ljava/lang/Object;J)B" } : Jvm.MethodName)) ∈ lw_all := lw_g (lw_at lw_m2 117 rfl) rfl
theorem q480 : (Jvm.Cond.native ({ cls := "jdk/internal/misc/Unsafe", name := "getByte", desc := "(Ljava/lang/Object;J)B" } : Jvm.MethodName)) ∈ lw_all := lw_g (lw_at lw_m2 118 rfl) rfl
theorem q481 : (Jvm.Cond.constantLong "jdk/internal/misc/Unsafe" (707 : Nat) (5 : Int64)) ∈ lw_all := lw_g (lw_at lw_m2 119 rfl) rfl
theorem q482 : (Jvm.Cond.methodLink "jdk/internal/misc/Unsafe" (709 : Nat) ({ cls := "jdk/internal/misc/Unsafe", name := "makeLong", desc := "(BBBBBBBB)J" } : Jvm.MethodName)) ∈ lw_all := lw_g (lw_at lw_m2 120 rfl) rfl
theorem q483 : (Jvm.Cond.static ({ cls := "jdk/internal/misc/Unsafe", name := "makeLong", desc := "(BBBBBBBB)J" } : Jvm.MethodName)) ∈ lw_all := lw_g (lw_at lw_m2 121 rfl) rfl
theorem q484 : (Jvm.Cond.code ({ cls := "jdk/internal/misc/Unsafe", name := "makeLong", desc := "(BBBBBBBB)J" } : Jvm.MethodName) prog_90_method_351_code (8 : Nat) (Option.some Jvm.ClassFile.FieldType.long)) ∈ lw_all := lw_g (lw_at lw_m2 122 rfl) rfl
theorem q485 : (Jvm.Cond.methodLink "jdk/internal/misc/Unsafe" (781 : Nat) ({ cls := "jdk/internal/misc/Unsafe", name := "toUnsignedLong", desc := "(B)J" } : Jvm.MethodName)) ∈ lw_all := lw_g (lw_at lw_m2 123 rfl) rfl
theorem q486 : (Jvm.Cond.static ({ cls := "jdk/internal/misc/Unsafe", name := "toUnsignedLong", desc := "(B)J" } : Jvm.MethodName)) ∈ lw_all := lw_g (lw_at lw_m2 124 rfl) rfl
theorem q487 : (Jvm.Cond.code ({ cls := "jdk/internal/misc/Unsafe", name := "toUnsignedLong", desc := "(B)J" } : Jvm.MethodName) prog_90_method_368_code (1 : Nat) (Option.some Jvm.ClassFile.FieldType.long)) ∈ lw_all := lw_g (lw_at lw_m2 125 rfl) rfl
theorem q488 : (Jvm.Cond.constantLong "jdk/internal/misc/Unsafe" (808 : Nat) (255 : Int64)) ∈ lw_all := lw_g (lw_at lw_m2 126 rfl) rfl
theorem q509 : (Jvm.Cond.instanceMethod ({ cls := "jdk/internal/misc/Unsafe", name := "getIntUnaligned", desc := "(Ljava/lang/Object;J)I" } : Jvm.MethodName)) ∈ lw_all := lw_g (lw_at lw_m2 147 rfl) rfl
theorem q510 : (Jvm.Cond.selects "jdk/internal/misc/Unsafe" ({ cls := "jdk/internal/misc/Unsafe", name := "getIntUnaligned", desc := "(Ljava/lang/Object;J)I" } : Jvm.MethodName) ({ cls := "jdk/internal/misc/Unsafe", name := "getIntUnaligned", desc := "(Ljava/lang/Object;J)I" } : Jvm.MethodName)) ∈ lw_all := lw_g (lw_at lw_m2 148 rfl) rfl
theorem q511 : (Jvm.Cond.code ({ cls := "jdk/internal/misc/Unsafe", name := "getIntUnaligned", desc := "(Ljava/lang/Object;J)I" } : Jvm.MethodName) prog_90_method_336_code (4 : Nat) (Option.some Jvm.ClassFile.FieldType.int)) ∈ lw_all := lw_g (lw_at lw_m2 149 rfl) rfl
theorem q512 : (Jvm.Cond.methodLink "jdk/internal/misc/Unsafe" (719 : Nat) ({ cls := "jdk/internal/misc/Unsafe", name := "makeInt", desc := "(SS)I" } : Jvm.MethodName)) ∈ lw_all := lw_g (lw_at lw_m2 150 rfl) rfl
theorem q513 : (Jvm.Cond.static ({ cls := "jdk/internal/misc/Unsafe", name := "makeInt", desc := "(SS)I" } : Jvm.MethodName)) ∈ lw_all := lw_g (lw_at lw_m2 151 rfl) rfl
theorem q514 : (Jvm.Cond.code ({ cls := "jdk/internal/misc/Unsafe", name := "makeInt", desc := "(SS)I" } : Jvm.MethodName) prog_90_method_354_code (2 : Nat) (Option.some Jvm.ClassFile.FieldType.int)) ∈ lw_all := lw_g (lw_at lw_m2 152 rfl) rfl
theorem q515 : (Jvm.Cond.methodLink "jdk/internal/misc/Unsafe" (792 : Nat) ({ cls := "jdk/internal/misc/Unsafe", name := "toUnsignedInt", desc := "(S)I" } : Jvm.MethodName)) ∈ lw_all := lw_g (lw_at lw_m2 153 rfl) rfl
theorem q516 : (Jvm.Cond.static ({ cls := "jdk/internal/misc/Unsafe", name := "toUnsignedInt", desc := "(S)I" } : Jvm.MethodName)) ∈ lw_all := lw_g (lw_at lw_m2 154 rfl) rfl
theorem q517 : (Jvm.Cond.code ({ cls := "jdk/internal/misc/Unsafe", name := "toUnsignedInt", desc := "(S)I" } : Jvm.MethodName) prog_90_method_367_code (1 : Nat) (Option.some Jvm.ClassFile.FieldType.int)) ∈ lw_all := lw_g (lw_at lw_m2 155 rfl) rfl
theorem q518 : (Jvm.Cond.constant "jdk/internal/misc/Unsafe" (374 : Nat) (65535 : Int32)) ∈ lw_all := lw_g (lw_at lw_m2 156 rfl) rfl
theorem q519 : (Jvm.Cond.methodLink "jdk/internal/misc/Unsafe" (723 : Nat) ({ cls := "jdk/internal/misc/Unsafe", name := "makeInt", desc := "(BBBB)I" } : Jvm.MethodName)) ∈ lw_all := lw_g (lw_at lw_m2 157 rfl) rfl
theorem q520 : (Jvm.Cond.static ({ cls := "jdk/internal/misc/Unsafe", name := "makeInt", desc := "(BBBB)I" } : Jvm.MethodName)) ∈ lw_all := lw_g (lw_at lw_m2 158 rfl) rfl
theorem q521 : (Jvm.Cond.code ({ cls := "jdk/internal/misc/Unsafe", name := "makeInt", desc := "(BBBB)I" } : Jvm.MethodName) prog_90_method_355_code (4 : Nat) (Option.some Jvm.ClassFile.FieldType.int)) ∈ lw_all := lw_g (lw_at lw_m2 159 rfl) rfl
theorem q522 : (Jvm.Cond.methodLink "jdk/internal/misc/Unsafe" (796 : Nat) ({ cls := "jdk/internal/misc/Unsafe", name := "toUnsignedInt", desc := "(B)I" } : Jvm.MethodName)) ∈ lw_all := lw_g (lw_at lw_m2 160 rfl) rfl
theorem q523 : (Jvm.Cond.static ({ cls := "jdk/internal/misc/Unsafe", name := "toUnsignedInt", desc := "(B)I" } : Jvm.MethodName)) ∈ lw_all := lw_g (lw_at lw_m2 161 rfl) rfl
theorem q524 : (Jvm.Cond.code ({ cls := "jdk/internal/misc/Unsafe", name := "toUnsignedInt", desc := "(B)I" } : Jvm.MethodName) prog_90_method_366_code (1 : Nat) (Option.some Jvm.ClassFile.FieldType.int)) ∈ lw_all := lw_g (lw_at lw_m2 162 rfl) rfl
theorem q800 : (Jvm.Cond.selects "jdk/internal/misc/Unsafe" ({ cls := "java/lang/Object", name := "equals", desc := "(Ljava/lang/Object;)Z" } : Jvm.MethodName) ({ cls := "java/lang/Object", name := "equals", desc := "(Ljava/lang/Object;)Z" } : Jvm.MethodName)) ∈ lw_all := lw_g (lw_at lw_m3 198 rfl) rfl
theorem q3482 : (Jvm.Cond.castable "jdk/internal/misc/Unsafe" "java/lang/Object") ∈ lw_tbl := lw_at lw_m15 0 rfl

/-! java/lang/Long -/
set_option maxRecDepth 100000
def RJ12 : String := "java/lang/Long"
abbrev cJ12_numberOfTrailingZeros : ByteArray := prog_39_method_49_code
def yJ12_numberOfTrailingZeros : MethodName := ⟨RJ12, "numberOfTrailingZeros", "(J)I"⟩
def dkwJ12_numberOfTrailingZeros_1 : List UInt8 := [184, 1, 55, 172]
abbrev dktJ12_numberOfTrailingZeros_1 : List UInt8 := dkwJ12_numberOfTrailingZeros_1 ++ []
def dkwJ12_numberOfTrailingZeros_0 : List UInt8 := [30, 136, 61, 28, 154, 0, 17, 16, 32, 30, 16, 32, 125, 136, 184, 1, 55, 96, 167, 0, 7, 28]
abbrev dktJ12_numberOfTrailingZeros_0 : List UInt8 := dkwJ12_numberOfTrailingZeros_0 ++ dktJ12_numberOfTrailingZeros_1
theorem dksJ12_numberOfTrailingZeros_0 : cJ12_numberOfTrailingZeros.data.toList.drop 0 = dktJ12_numberOfTrailingZeros_0 := by decide +kernel
theorem dksJ12_numberOfTrailingZeros_1 : cJ12_numberOfTrailingZeros.data.toList.drop 22 = dktJ12_numberOfTrailingZeros_1 := dk_seg dksJ12_numberOfTrailingZeros_0 22 rfl rfl
theorem dJ12_numberOfTrailingZeros_0 : decode cJ12_numberOfTrailingZeros 0 = .ok (.lload_n 0, 1) := dk_30 (dk_at dksJ12_numberOfTrailingZeros_0 0 rfl rfl)
theorem dJ12_numberOfTrailingZeros_1 : decode cJ12_numberOfTrailingZeros 1 = .ok (.l2i, 1) := dk_136 (dk_at dksJ12_numberOfTrailingZeros_0 1 rfl rfl)
theorem dJ12_numberOfTrailingZeros_2 : decode cJ12_numberOfTrailingZeros 2 = .ok (.istore_n 2, 1) := dk_61 (dk_at dksJ12_numberOfTrailingZeros_0 2 rfl rfl)
theorem dJ12_numberOfTrailingZeros_3 : decode cJ12_numberOfTrailingZeros 3 = .ok (.iload_n 2, 1) := dk_28 (dk_at dksJ12_numberOfTrailingZeros_0 3 rfl rfl)
theorem dJ12_numberOfTrailingZeros_4 : decode cJ12_numberOfTrailingZeros 4 = .ok (.ifCond .ne 17, 3) := dk_154 0 17 (dk_at dksJ12_numberOfTrailingZeros_0 4 rfl rfl)
theorem dJ12_numberOfTrailingZeros_7 : decode cJ12_numberOfTrailingZeros 7 = .ok (.bipush 32, 2) := dk_16 32 (dk_at dksJ12_numberOfTrailingZeros_0 7 rfl rfl)
theorem dJ12_numberOfTrailingZeros_9 : decode cJ12_numberOfTrailingZeros 9 = .ok (.lload_n 0, 1) := dk_30 (dk_at dksJ12_numberOfTrailingZeros_0 9 rfl rfl)
theorem dJ12_numberOfTrailingZeros_10 : decode cJ12_numberOfTrailingZeros 10 = .ok (.bipush 32, 2) := dk_16 32 (dk_at dksJ12_numberOfTrailingZeros_0 10 rfl rfl)
theorem dJ12_numberOfTrailingZeros_12 : decode cJ12_numberOfTrailingZeros 12 = .ok (.lushr, 1) := dk_125 (dk_at dksJ12_numberOfTrailingZeros_0 12 rfl rfl)
theorem dJ12_numberOfTrailingZeros_13 : decode cJ12_numberOfTrailingZeros 13 = .ok (.l2i, 1) := dk_136 (dk_at dksJ12_numberOfTrailingZeros_0 13 rfl rfl)
theorem dJ12_numberOfTrailingZeros_14 : decode cJ12_numberOfTrailingZeros 14 = .ok (.invokestatic 311, 3) := dk_184 1 55 (dk_at dksJ12_numberOfTrailingZeros_0 14 rfl rfl)
theorem dJ12_numberOfTrailingZeros_17 : decode cJ12_numberOfTrailingZeros 17 = .ok (.iadd, 1) := dk_96 (dk_at dksJ12_numberOfTrailingZeros_0 17 rfl rfl)
theorem dJ12_numberOfTrailingZeros_18 : decode cJ12_numberOfTrailingZeros 18 = .ok (.goto 7, 3) := dk_167 0 7 (dk_at dksJ12_numberOfTrailingZeros_0 18 rfl rfl)
theorem dJ12_numberOfTrailingZeros_21 : decode cJ12_numberOfTrailingZeros 21 = .ok (.iload_n 2, 1) := dk_28 (dk_at dksJ12_numberOfTrailingZeros_0 21 rfl rfl)
theorem dJ12_numberOfTrailingZeros_22 : decode cJ12_numberOfTrailingZeros 22 = .ok (.invokestatic 311, 3) := dk_184 1 55 (dk_at dksJ12_numberOfTrailingZeros_1 0 rfl rfl)
theorem dJ12_numberOfTrailingZeros_25 : decode cJ12_numberOfTrailingZeros 25 = .ok (.ireturn, 1) := dk_172 (dk_at dksJ12_numberOfTrailingZeros_1 3 rfl rfl)
abbrev cJ12_bitCount : ByteArray := prog_39_method_50_code
def yJ12_bitCount : MethodName := ⟨RJ12, "bitCount", "(J)I"⟩
def dkwJ12_bitCount_2 : List UInt8 := [30, 30, 16, 32, 125, 97, 63, 30, 136, 16, 127, 126, 172]
abbrev dktJ12_bitCount_2 : List UInt8 := dkwJ12_bitCount_2 ++ []
def dkwJ12_bitCount_1 : List UInt8 := [30, 30, 7, 125, 97, 20, 1, 62, 127, 63, 30, 30, 16, 8, 125, 97, 63, 30, 30, 16, 16, 125, 97, 63]
abbrev dktJ12_bitCount_1 : List UInt8 := dkwJ12_bitCount_1 ++ dktJ12_bitCount_2
def dkwJ12_bitCount_0 : List UInt8 := [30, 30, 4, 125, 20, 1, 58, 127, 101, 63, 30, 20, 1, 60, 127, 30, 5, 125, 20, 1, 60, 127, 97, 63]
abbrev dktJ12_bitCount_0 : List UInt8 := dkwJ12_bitCount_0 ++ dktJ12_bitCount_1
theorem dksJ12_bitCount_0 : cJ12_bitCount.data.toList.drop 0 = dktJ12_bitCount_0 := by decide +kernel
theorem dksJ12_bitCount_1 : cJ12_bitCount.data.toList.drop 24 = dktJ12_bitCount_1 := dk_seg dksJ12_bitCount_0 24 rfl rfl
theorem dksJ12_bitCount_2 : cJ12_bitCount.data.toList.drop 48 = dktJ12_bitCount_2 := dk_seg dksJ12_bitCount_1 24 rfl rfl
theorem dJ12_bitCount_0 : decode cJ12_bitCount 0 = .ok (.lload_n 0, 1) := dk_30 (dk_at dksJ12_bitCount_0 0 rfl rfl)
theorem dJ12_bitCount_1 : decode cJ12_bitCount 1 = .ok (.lload_n 0, 1) := dk_30 (dk_at dksJ12_bitCount_0 1 rfl rfl)
theorem dJ12_bitCount_2 : decode cJ12_bitCount 2 = .ok (.iconst 1, 1) := dk_4 (dk_at dksJ12_bitCount_0 2 rfl rfl)
theorem dJ12_bitCount_3 : decode cJ12_bitCount 3 = .ok (.lushr, 1) := dk_125 (dk_at dksJ12_bitCount_0 3 rfl rfl)
theorem dJ12_bitCount_4 : decode cJ12_bitCount 4 = .ok (.ldc2_w 314, 3) := dk_20 1 58 (dk_at dksJ12_bitCount_0 4 rfl rfl)
theorem dJ12_bitCount_7 : decode cJ12_bitCount 7 = .ok (.land, 1) := dk_127 (dk_at dksJ12_bitCount_0 7 rfl rfl)
theorem dJ12_bitCount_8 : decode cJ12_bitCount 8 = .ok (.lsub, 1) := dk_101 (dk_at dksJ12_bitCount_0 8 rfl rfl)
theorem dJ12_bitCount_9 : decode cJ12_bitCount 9 = .ok (.lstore_n 0, 1) := dk_63 (dk_at dksJ12_bitCount_0 9 rfl rfl)
theorem dJ12_bitCount_10 : decode cJ12_bitCount 10 = .ok (.lload_n 0, 1) := dk_30 (dk_at dksJ12_bitCount_0 10 rfl rfl)
theorem dJ12_bitCount_11 : decode cJ12_bitCount 11 = .ok (.ldc2_w 316, 3) := dk_20 1 60 (dk_at dksJ12_bitCount_0 11 rfl rfl)
theorem dJ12_bitCount_14 : decode cJ12_bitCount 14 = .ok (.land, 1) := dk_127 (dk_at dksJ12_bitCount_0 14 rfl rfl)
theorem dJ12_bitCount_15 : decode cJ12_bitCount 15 = .ok (.lload_n 0, 1) := dk_30 (dk_at dksJ12_bitCount_0 15 rfl rfl)
theorem dJ12_bitCount_16 : decode cJ12_bitCount 16 = .ok (.iconst 2, 1) := dk_5 (dk_at dksJ12_bitCount_0 16 rfl rfl)
theorem dJ12_bitCount_17 : decode cJ12_bitCount 17 = .ok (.lushr, 1) := dk_125 (dk_at dksJ12_bitCount_0 17 rfl rfl)
theorem dJ12_bitCount_18 : decode cJ12_bitCount 18 = .ok (.ldc2_w 316, 3) := dk_20 1 60 (dk_at dksJ12_bitCount_0 18 rfl rfl)
theorem dJ12_bitCount_21 : decode cJ12_bitCount 21 = .ok (.land, 1) := dk_127 (dk_at dksJ12_bitCount_0 21 rfl rfl)
theorem dJ12_bitCount_22 : decode cJ12_bitCount 22 = .ok (.ladd, 1) := dk_97 (dk_at dksJ12_bitCount_0 22 rfl rfl)
theorem dJ12_bitCount_23 : decode cJ12_bitCount 23 = .ok (.lstore_n 0, 1) := dk_63 (dk_at dksJ12_bitCount_0 23 rfl rfl)
theorem dJ12_bitCount_24 : decode cJ12_bitCount 24 = .ok (.lload_n 0, 1) := dk_30 (dk_at dksJ12_bitCount_1 0 rfl rfl)
theorem dJ12_bitCount_25 : decode cJ12_bitCount 25 = .ok (.lload_n 0, 1) := dk_30 (dk_at dksJ12_bitCount_1 1 rfl rfl)
theorem dJ12_bitCount_26 : decode cJ12_bitCount 26 = .ok (.iconst 4, 1) := dk_7 (dk_at dksJ12_bitCount_1 2 rfl rfl)
theorem dJ12_bitCount_27 : decode cJ12_bitCount 27 = .ok (.lushr, 1) := dk_125 (dk_at dksJ12_bitCount_1 3 rfl rfl)
theorem dJ12_bitCount_28 : decode cJ12_bitCount 28 = .ok (.ladd, 1) := dk_97 (dk_at dksJ12_bitCount_1 4 rfl rfl)
theorem dJ12_bitCount_29 : decode cJ12_bitCount 29 = .ok (.ldc2_w 318, 3) := dk_20 1 62 (dk_at dksJ12_bitCount_1 5 rfl rfl)
theorem dJ12_bitCount_32 : decode cJ12_bitCount 32 = .ok (.land, 1) := dk_127 (dk_at dksJ12_bitCount_1 8 rfl rfl)
theorem dJ12_bitCount_33 : decode cJ12_bitCount 33 = .ok (.lstore_n 0, 1) := dk_63 (dk_at dksJ12_bitCount_1 9 rfl rfl)
theorem dJ12_bitCount_34 : decode cJ12_bitCount 34 = .ok (.lload_n 0, 1) := dk_30 (dk_at dksJ12_bitCount_1 10 rfl rfl)
theorem dJ12_bitCount_35 : decode cJ12_bitCount 35 = .ok (.lload_n 0, 1) := dk_30 (dk_at dksJ12_bitCount_1 11 rfl rfl)
theorem dJ12_bitCount_36 : decode cJ12_bitCount 36 = .ok (.bipush 8, 2) := dk_16 8 (dk_at dksJ12_bitCount_1 12 rfl rfl)
theorem dJ12_bitCount_38 : decode cJ12_bitCount 38 = .ok (.lushr, 1) := dk_125 (dk_at dksJ12_bitCount_1 14 rfl rfl)
theorem dJ12_bitCount_39 : decode cJ12_bitCount 39 = .ok (.ladd, 1) := dk_97 (dk_at dksJ12_bitCount_1 15 rfl rfl)
theorem dJ12_bitCount_40 : decode cJ12_bitCount 40 = .ok (.lstore_n 0, 1) := dk_63 (dk_at dksJ12_bitCount_1 16 rfl rfl)
theorem dJ12_bitCount_41 : decode cJ12_bitCount 41 = .ok (.lload_n 0, 1) := dk_30 (dk_at dksJ12_bitCount_1 17 rfl rfl)
theorem dJ12_bitCount_42 : decode cJ12_bitCount 42 = .ok (.lload_n 0, 1) := dk_30 (dk_at dksJ12_bitCount_1 18 rfl rfl)
theorem dJ12_bitCount_43 : decode cJ12_bitCount 43 = .ok (.bipush 16, 2) := dk_16 16 (dk_at dksJ12_bitCount_1 19 rfl rfl)
theorem dJ12_bitCount_45 : decode cJ12_bitCount 45 = .ok (.lushr, 1) := dk_125 (dk_at dksJ12_bitCount_1 21 rfl rfl)
theorem dJ12_bitCount_46 : decode cJ12_bitCount 46 = .ok (.ladd, 1) := dk_97 (dk_at dksJ12_bitCount_1 22 rfl rfl)
theorem dJ12_bitCount_47 : decode cJ12_bitCount 47 = .ok (.lstore_n 0, 1) := dk_63 (dk_at dksJ12_bitCount_1 23 rfl rfl)
theorem dJ12_bitCount_48 : decode cJ12_bitCount 48 = .ok (.lload_n 0, 1) := dk_30 (dk_at dksJ12_bitCount_2 0 rfl rfl)
theorem dJ12_bitCount_49 : decode cJ12_bitCount 49 = .ok (.lload_n 0, 1) := dk_30 (dk_at dksJ12_bitCount_2 1 rfl rfl)
theorem dJ12_bitCount_50 : decode cJ12_bitCount 50 = .ok (.bipush 32, 2) := dk_16 32 (dk_at dksJ12_bitCount_2 2 rfl rfl)
theorem dJ12_bitCount_52 : decode cJ12_bitCount 52 = .ok (.lushr, 1) := dk_125 (dk_at dksJ12_bitCount_2 4 rfl rfl)
theorem dJ12_bitCount_53 : decode cJ12_bitCount 53 = .ok (.ladd, 1) := dk_97 (dk_at dksJ12_bitCount_2 5 rfl rfl)
theorem dJ12_bitCount_54 : decode cJ12_bitCount 54 = .ok (.lstore_n 0, 1) := dk_63 (dk_at dksJ12_bitCount_2 6 rfl rfl)
theorem dJ12_bitCount_55 : decode cJ12_bitCount 55 = .ok (.lload_n 0, 1) := dk_30 (dk_at dksJ12_bitCount_2 7 rfl rfl)
theorem dJ12_bitCount_56 : decode cJ12_bitCount 56 = .ok (.l2i, 1) := dk_136 (dk_at dksJ12_bitCount_2 8 rfl rfl)
theorem dJ12_bitCount_57 : decode cJ12_bitCount 57 = .ok (.bipush 127, 2) := dk_16 127 (dk_at dksJ12_bitCount_2 9 rfl rfl)
theorem dJ12_bitCount_59 : decode cJ12_bitCount 59 = .ok (.iand, 1) := dk_126 (dk_at dksJ12_bitCount_2 11 rfl rfl)
theorem dJ12_bitCount_60 : decode cJ12_bitCount 60 = .ok (.ireturn, 1) := dk_172 (dk_at dksJ12_bitCount_2 12 rfl rfl)
theorem q139 : (Jvm.Cond.initialized "java/lang/Long") ∈ lw_all := lw_g (lw_at lw_m1 17 rfl) rfl
theorem q492 : (Jvm.Cond.static ({ cls := "java/lang/Long", name := "numberOfLeadingZeros", desc := "(J)I" } : Jvm.MethodName)) ∈ lw_all := lw_g (lw_at lw_m2 130 rfl) rfl
theorem q493 : (Jvm.Cond.code ({ cls := "java/lang/Long", name := "numberOfLeadingZeros", desc := "(J)I" } : Jvm.MethodName) prog_39_method_48_code (3 : Nat) (Option.some Jvm.ClassFile.FieldType.int)) ∈ lw_all := lw_g (lw_at lw_m2 131 rfl) rfl
theorem q494 : (Jvm.Cond.methodLink "java/lang/Long" (308 : Nat) ({ cls := "java/lang/Integer", name := "numberOfLeadingZeros", desc := "(I)I" } : Jvm.MethodName)) ∈ lw_all := lw_g (lw_at lw_m2 132 rfl) rfl
theorem q501 : (Jvm.Cond.static ({ cls := "java/lang/Long", name := "numberOfTrailingZeros", desc := "(J)I" } : Jvm.MethodName)) ∈ lw_all := lw_g (lw_at lw_m2 139 rfl) rfl
theorem q502 : (Jvm.Cond.code ({ cls := "java/lang/Long", name := "numberOfTrailingZeros", desc := "(J)I" } : Jvm.MethodName) prog_39_method_49_code (3 : Nat) (Option.some Jvm.ClassFile.FieldType.int)) ∈ lw_all := lw_g (lw_at lw_m2 140 rfl) rfl
theorem q503 : (Jvm.Cond.methodLink "java/lang/Long" (311 : Nat) ({ cls := "java/lang/Integer", name := "numberOfTrailingZeros", desc := "(I)I" } : Jvm.MethodName)) ∈ lw_all := lw_g (lw_at lw_m2 141 rfl) rfl
theorem q628 : (Jvm.Cond.static ({ cls := "java/lang/Long", name := "bitCount", desc := "(J)I" } : Jvm.MethodName)) ∈ lw_all := lw_g (lw_at lw_m3 26 rfl) rfl
theorem q629 : (Jvm.Cond.code ({ cls := "java/lang/Long", name := "bitCount", desc := "(J)I" } : Jvm.MethodName) prog_39_method_50_code (2 : Nat) (Option.some Jvm.ClassFile.FieldType.int)) ∈ lw_all := lw_g (lw_at lw_m3 27 rfl) rfl
theorem q630 : (Jvm.Cond.constantLong "java/lang/Long" (314 : Nat) (6148914691236517205 : Int64)) ∈ lw_all := lw_g (lw_at lw_m3 28 rfl) rfl
theorem q631 : (Jvm.Cond.constantLong "java/lang/Long" (316 : Nat) (3689348814741910323 : Int64)) ∈ lw_all := lw_g (lw_at lw_m3 29 rfl) rfl
theorem q632 : (Jvm.Cond.constantLong "java/lang/Long" (318 : Nat) (1085102592571150095 : Int64)) ∈ lw_all := lw_g (lw_at lw_m3 30 rfl) rfl

/-! java/lang/StringUTF16 -/
set_option maxRecDepth 100000
def RJ13 : String := "java/lang/StringUTF16"
theorem q140 : (Jvm.Cond.initialized "java/lang/StringUTF16") ∈ lw_all := lw_g (lw_at lw_m1 18 rfl) rfl
theorem q531 : (Jvm.Cond.static ({ cls := "java/lang/StringUTF16", name := "compareTo", desc := "([B[B)I" } : Jvm.MethodName)) ∈ lw_all := lw_g (lw_at lw_m2 169 rfl) rfl
theorem q532 : (Jvm.Cond.code ({ cls := "java/lang/StringUTF16", name := "compareTo", desc := "([B[B)I" } : Jvm.MethodName) prog_46_method_29_code (4 : Nat) (Option.some Jvm.ClassFile.FieldType.int)) ∈ lw_all := lw_g (lw_at lw_m2 170 rfl) rfl
theorem q533 : (Jvm.Cond.methodLink "java/lang/StringUTF16" (48 : Nat) ({ cls := "java/lang/StringUTF16", name := "length", desc := "([B)I" } : Jvm.MethodName)) ∈ lw_all := lw_g (lw_at lw_m2 171 rfl) rfl
theorem q534 : (Jvm.Cond.static ({ cls := "java/lang/StringUTF16", name := "length", desc := "([B)I" } : Jvm.MethodName)) ∈ lw_all := lw_g (lw_at lw_m2 172 rfl) rfl
theorem q535 : (Jvm.Cond.code ({ cls := "java/lang/StringUTF16", name := "length", desc := "([B)I" } : Jvm.MethodName) prog_46_method_6_code (1 : Nat) (Option.some Jvm.ClassFile.FieldType.int)) ∈ lw_all := lw_g (lw_at lw_m2 173 rfl) rfl
theorem q536 : (Jvm.Cond.methodLink "java/lang/StringUTF16" (176 : Nat) ({ cls := "java/lang/StringUTF16", name := "compareValues", desc := "([B[BII)I" } : Jvm.MethodName)) ∈ lw_all := lw_g (lw_at lw_m2 174 rfl) rfl
theorem q537 : (Jvm.Cond.static ({ cls := "java/lang/StringUTF16", name := "compareValues", desc := "([B[BII)I" } : Jvm.MethodName)) ∈ lw_all := lw_g (lw_at lw_m2 175 rfl) rfl
theorem q538 : (Jvm.Cond.code ({ cls := "java/lang/StringUTF16", name := "compareValues", desc := "([B[BII)I" } : Jvm.MethodName) prog_46_method_31_code (8 : Nat) (Option.some Jvm.ClassFile.FieldType.int)) ∈ lw_all := lw_g (lw_at lw_m2 176 rfl) rfl
theorem q539 : (Jvm.Cond.methodLink "java/lang/StringUTF16" (183 : Nat) ({ cls := "java/lang/Math", name := "min", desc := "(II)I" } : Jvm.MethodName)) ∈ lw_all := lw_g (lw_at lw_m2 177 rfl) rfl
theorem q540 : (Jvm.Cond.methodLink "java/lang/StringUTF16" (71 : Nat) ({ cls := "java/lang/StringUTF16", name := "getChar", desc := "([BI)C" } : Jvm.MethodName)) ∈ lw_all := lw_g (lw_at lw_m2 178 rfl) rfl
theorem q541 : (Jvm.Cond.static ({ cls := "java/lang/StringUTF16", name := "getChar", desc := "([BI)C" } : Jvm.MethodName)) ∈ lw_all := lw_g (lw_at lw_m2 179 rfl) rfl
theorem q542 : (Jvm.Cond.code ({ cls := "java/lang/StringUTF16", name := "getChar", desc := "([BI)C" } : Jvm.MethodName) prog_46_method_5_code (2 : Nat) (Option.some Jvm.ClassFile.FieldType.char)) ∈ lw_all := lw_g (lw_at lw_m2 180 rfl) rfl
theorem q543 : (Jvm.Cond.fieldLink "java/lang/StringUTF16" (44 : Nat) "java/lang/StringUTF16" "$assertionsDisabled" "Z") ∈ lw_all := lw_g (lw_at lw_m2 181 rfl) rfl
theorem q544 : (Jvm.Cond.laysStatic "java/lang/StringUTF16" "$assertionsDisabled" "Z") ∈ lw_tbl := lw_at lw_m2 182 rfl
theorem q545 : (Jvm.Cond.fieldLink "java/lang/StringUTF16" (59 : Nat) "java/lang/StringUTF16" "HI_BYTE_SHIFT" "I") ∈ lw_all := lw_g (lw_at lw_m2 183 rfl) rfl
theorem q546 : (Jvm.Cond.laysStatic "java/lang/StringUTF16" "HI_BYTE_SHIFT" "I") ∈ lw_tbl := lw_at lw_m2 184 rfl
theorem q547 : (Jvm.Cond.fieldLink "java/lang/StringUTF16" (63 : Nat) "java/lang/StringUTF16" "LO_BYTE_SHIFT" "I") ∈ lw_all := lw_g (lw_at lw_m2 185 rfl) rfl
theorem q548 : (Jvm.Cond.laysStatic "java/lang/StringUTF16" "LO_BYTE_SHIFT" "I") ∈ lw_tbl := lw_at lw_m2 186 rfl
theorem q561 : (Jvm.Cond.static ({ cls := "java/lang/StringUTF16", name := "compareToLatin1", desc := "([B[B)I" } : Jvm.MethodName)) ∈ lw_all := lw_g (lw_at lw_m2 199 rfl) rfl
theorem q562 : (Jvm.Cond.code ({ cls := "java/lang/StringUTF16", name := "compareToLatin1", desc := "([B[B)I" } : Jvm.MethodName) prog_46_method_32_code (2 : Nat) (Option.some Jvm.ClassFile.FieldType.int)) ∈ lw_all := lw_g (lw_at lw_m2 200 rfl) rfl
theorem q563 : (Jvm.Cond.methodLink "java/lang/StringUTF16" (189 : Nat) ({ cls := "java/lang/StringLatin1", name := "compareToUTF16", desc := "([B[B)I" } : Jvm.MethodName)) ∈ lw_all := lw_g (lw_at lw_m2 201 rfl) rfl
theorem q587 : (Jvm.Cond.static ({ cls := "java/lang/StringUTF16", name := "compareTo", desc := "([B[BII)I" } : Jvm.MethodName)) ∈ lw_all := lw_g (lw_at lw_m2 225 rfl) rfl
theorem q588 : (Jvm.Cond.code ({ cls := "java/lang/StringUTF16", name := "compareTo", desc := "([B[BII)I" } : Jvm.MethodName) prog_46_method_30_code (4 : Nat) (Option.some Jvm.ClassFile.FieldType.int)) ∈ lw_all := lw_g (lw_at lw_m2 226 rfl) rfl
theorem q589 : (Jvm.Cond.methodLink "java/lang/StringUTF16" (180 : Nat) ({ cls := "java/lang/StringUTF16", name := "checkOffset", desc := "(I[B)V" } : Jvm.MethodName)) ∈ lw_all := lw_g (lw_at lw_m2 227 rfl) rfl
theorem q590 : (Jvm.Cond.static ({ cls := "java/lang/StringUTF16", name := "checkOffset", desc := "(I[B)V" } : Jvm.MethodName)) ∈ lw_all := lw_g (lw_at lw_m2 228 rfl) rfl
theorem q591 : (Jvm.Cond.code ({ cls := "java/lang/StringUTF16", name := "checkOffset", desc := "(I[B)V" } : Jvm.MethodName) prog_46_method_92_code (2 : Nat) (Option.none : Option Jvm.ClassFile.FieldType)) ∈ lw_all := lw_g (lw_at lw_m2 229 rfl) rfl
theorem q592 : (Jvm.Cond.methodLink "java/lang/StringUTF16" (417 : Nat) ({ cls := "java/lang/String", name := "checkOffset", desc := "(II)V" } : Jvm.MethodName)) ∈ lw_all := lw_g (lw_at lw_m2 230 rfl) rfl
theorem q605 : (Jvm.Cond.static ({ cls := "java/lang/StringUTF16", name := "compareToLatin1", desc := "([B[BII)I" } : Jvm.MethodName)) ∈ lw_all := lw_g (lw_at lw_m3 3 rfl) rfl
theorem q606 : (Jvm.Cond.code ({ cls := "java/lang/StringUTF16", name := "compareToLatin1", desc := "([B[BII)I" } : Jvm.MethodName) prog_46_method_33_code (4 : Nat) (Option.some Jvm.ClassFile.FieldType.int)) ∈ lw_all := lw_g (lw_at lw_m3 4 rfl) rfl
theorem q607 : (Jvm.Cond.methodLink "java/lang/StringUTF16" (193 : Nat) ({ cls := "java/lang/StringLatin1", name := "compareToUTF16", desc := "([B[BII)I" } : Jvm.MethodName)) ∈ lw_all := lw_g (lw_at lw_m3 5 rfl) rfl
theorem q1685 : (Jvm.Cond.static ({ cls := "java/lang/StringUTF16", name := "newBytesFor", desc := "(I)[B" } : Jvm.MethodName)) ∈ lw_all := lw_g (lw_at lw_m7 123 rfl) rfl
theorem q1686 : (Jvm.Cond.code ({ cls := "java/lang/StringUTF16", name := "newBytesFor", desc := "(I)[B" } : Jvm.MethodName) prog_46_method_2_code (1 : Nat) (Option.some (Jvm.ClassFile.FieldType.array Jvm.ClassFile.FieldType.byte))) ∈ lw_all := lw_g (lw_at lw_m7 124 rfl) rfl
theorem q1687 : (Jvm.Cond.methodLink "java/lang/StringUTF16" (11 : Nat) ({ cls := "java/lang/StringUTF16", name := "newBytesLength", desc := "(I)I" } : Jvm.MethodName)) ∈ lw_all := lw_g (lw_at lw_m7 125 rfl) rfl
theorem q1688 : (Jvm.Cond.static ({ cls := "java/lang/StringUTF16", name := "newBytesLength", desc := "(I)I" } : Jvm.MethodName)) ∈ lw_all := lw_g (lw_at lw_m7 126 rfl) rfl
theorem q1689 : (Jvm.Cond.code ({ cls := "java/lang/StringUTF16", name := "newBytesLength", desc := "(I)I" } : Jvm.MethodName) prog_46_method_3_code (1 : Nat) (Option.some Jvm.ClassFile.FieldType.int)) ∈ lw_all := lw_g (lw_at lw_m7 127 rfl) rfl
theorem q1690 : (Jvm.Cond.constant "java/lang/StringUTF16" (20 : Nat) (1073741823 : Int32)) ∈ lw_all := lw_g (lw_at lw_m7 128 rfl) rfl
theorem q1737 : (Jvm.Cond.static ({ cls := "java/lang/StringUTF16", name := "putCharsAt", desc := "([BICCCC)I" } : Jvm.MethodName)) ∈ lw_all := lw_g (lw_at lw_m7 175 rfl) rfl
theorem q1738 : (Jvm.Cond.code ({ cls := "java/lang/StringUTF16", name := "putCharsAt", desc := "([BICCCC)I" } : Jvm.MethodName) prog_46_method_81_code (7 : Nat) (Option.some Jvm.ClassFile.FieldType.int)) ∈ lw_all := lw_g (lw_at lw_m7 176 rfl) rfl
theorem q1739 : (Jvm.Cond.methodLink "java/lang/StringUTF16" (96 : Nat) ({ cls := "java/lang/StringUTF16", name := "checkBoundsBeginEnd", desc := "(II[B)V" } : Jvm.MethodName)) ∈ lw_all := lw_g (lw_at lw_m7 177 rfl) rfl
theorem q1740 : (Jvm.Cond.static ({ cls := "java/lang/StringUTF16", name := "checkBoundsBeginEnd", desc := "(II[B)V" } : Jvm.MethodName)) ∈ lw_all := lw_g (lw_at lw_m7 178 rfl) rfl
theorem q1741 : (Jvm.Cond.code ({ cls := "java/lang/StringUTF16", name := "checkBoundsBeginEnd", desc := "(II[B)V" } : Jvm.MethodName) prog_46_method_93_code (3 : Nat) (Option.none : Option Jvm.ClassFile.FieldType)) ∈ lw_all := lw_g (lw_at lw_m7 179 rfl) rfl
theorem q1742 : (Jvm.Cond.methodLink "java/lang/StringUTF16" (241 : Nat) ({ cls := "java/lang/String", name := "checkBoundsBeginEnd", desc := "(III)V" } : Jvm.MethodName)) ∈ lw_all := lw_g (lw_at lw_m7 180 rfl) rfl
theorem q1745 : (Jvm.Cond.methodLink "java/lang/StringUTF16" (111 : Nat) ({ cls := "java/lang/StringUTF16", name := "putChar", desc := "([BII)V" } : Jvm.MethodName)) ∈ lw_all := lw_g (lw_at lw_m7 183 rfl) rfl
theorem q1746 : (Jvm.Cond.static ({ cls := "java/lang/StringUTF16", name := "putChar", desc := "([BII)V" } : Jvm.MethodName)) ∈ lw_all := lw_g (lw_at lw_m7 184 rfl) rfl
theorem q1747 : (Jvm.Cond.code ({ cls := "java/lang/StringUTF16", name := "putChar", desc := "([BII)V" } : Jvm.MethodName) prog_46_method_4_code (3 : Nat) (Option.none : Option Jvm.ClassFile.FieldType)) ∈ lw_all := lw_g (lw_at lw_m7 185 rfl) rfl
theorem q1769 : (Jvm.Cond.static ({ cls := "java/lang/StringUTF16", name := "inflate", desc := "([BI[BII)V" } : Jvm.MethodName)) ∈ lw_all := lw_g (lw_at lw_m7 207 rfl) rfl
theorem q1770 : (Jvm.Cond.code ({ cls := "java/lang/StringUTF16", name := "inflate", desc := "([BI[BII)V" } : Jvm.MethodName) prog_46_method_86_code (6 : Nat) (Option.none : Option Jvm.ClassFile.FieldType)) ∈ lw_all := lw_g (lw_at lw_m7 208 rfl) rfl
theorem q1771 : (Jvm.Cond.methodLink "java/lang/StringUTF16" (173 : Nat) ({ cls := "java/lang/StringUTF16", name := "checkBoundsOffCount", desc := "(II[B)V" } : Jvm.MethodName)) ∈ lw_all := lw_g (lw_at lw_m7 209 rfl) rfl
theorem q1772 : (Jvm.Cond.static ({ cls := "java/lang/StringUTF16", name := "checkBoundsOffCount", desc := "(II[B)V" } : Jvm.MethodName)) ∈ lw_all := lw_g (lw_at lw_m7 210 rfl) rfl
theorem q1773 : (Jvm.Cond.code ({ cls := "java/lang/StringUTF16", name := "checkBoundsOffCount", desc := "(II[B)V" } : Jvm.MethodName) prog_46_method_94_code (3 : Nat) (Option.none : Option Jvm.ClassFile.FieldType)) ∈ lw_all := lw_g (lw_at lw_m7 211 rfl) rfl
theorem q1774 : (Jvm.Cond.methodLink "java/lang/StringUTF16" (419 : Nat) ({ cls := "java/lang/String", name := "checkBoundsOffCount", desc := "(III)I" } : Jvm.MethodName)) ∈ lw_all := lw_g (lw_at lw_m7 212 rfl) rfl
theorem q1804 : (Jvm.Cond.static ({ cls := "java/lang/StringUTF16", name := "getChars", desc := "(III[B)I" } : Jvm.MethodName)) ∈ lw_all := lw_g (lw_at lw_m8 2 rfl) rfl
theorem q1805 : (Jvm.Cond.code ({ cls := "java/lang/StringUTF16", name := "getChars", desc := "(III[B)I" } : Jvm.MethodName) prog_46_method_77_code (5 : Nat) (Option.some Jvm.ClassFile.FieldType.int)) ∈ lw_all := lw_g (lw_at lw_m8 3 rfl) rfl
theorem q1806 : (Jvm.Cond.methodLink "java/lang/StringUTF16" (393 : Nat) ({ cls := "java/lang/StringUTF16", name := "getChars", desc := "(II[B)I" } : Jvm.MethodName)) ∈ lw_all := lw_g (lw_at lw_m8 4 rfl) rfl
theorem q1807 : (Jvm.Cond.static ({ cls := "java/lang/StringUTF16", name := "getChars", desc := "(II[B)I" } : Jvm.MethodName)) ∈ lw_all := lw_g (lw_at lw_m8 5 rfl) rfl
theorem q1808 : (Jvm.Cond.code ({ cls := "java/lang/StringUTF16", name := "getChars", desc := "(II[B)I" } : Jvm.MethodName) prog_46_method_89_code (7 : Nat) (Option.some Jvm.ClassFile.FieldType.int)) ∈ lw_all := lw_g (lw_at lw_m8 6 rfl) rfl
theorem q1809 : (Jvm.Cond.fieldLink "java/lang/StringUTF16" (403 : Nat) "java/lang/Integer" "DigitOnes" "[B") ∈ lw_all := lw_g (lw_at lw_m8 7 rfl) rfl
theorem q1810 : (Jvm.Cond.fieldLink "java/lang/StringUTF16" (407 : Nat) "java/lang/Integer" "DigitTens" "[B") ∈ lw_all := lw_g (lw_at lw_m8 8 rfl) rfl
theorem q1867 : (Jvm.Cond.static ({ cls := "java/lang/StringUTF16", name := "compress", desc := "([BII)[B" } : Jvm.MethodName)) ∈ lw_all := lw_g (lw_at lw_m8 65 rfl) rfl
theorem q1868 : (Jvm.Cond.code ({ cls := "java/lang/StringUTF16", name := "compress", desc := "([BII)[B" } : Jvm.MethodName) prog_46_method_17_code (6 : Nat) (Option.some (Jvm.ClassFile.FieldType.array Jvm.ClassFile.FieldType.byte))) ∈ lw_all := lw_g (lw_at lw_m8 66 rfl) rfl
theorem q1869 : (Jvm.Cond.methodLink "java/lang/StringUTF16" (123 : Nat) ({ cls := "java/lang/StringUTF16", name := "compress", desc := "([BI[BII)I" } : Jvm.MethodName)) ∈ lw_all := lw_g (lw_at lw_m8 67 rfl) rfl
theorem q1870 : (Jvm.Cond.static ({ cls := "java/lang/StringUTF16", name := "compress", desc := "([BI[BII)I" } : Jvm.MethodName)) ∈ lw_all := lw_g (lw_at lw_m8 68 rfl) rfl
theorem q1871 : (Jvm.Cond.code ({ cls := "java/lang/StringUTF16", name := "compress", desc := "([BI[BII)I" } : Jvm.MethodName) prog_46_method_22_code (7 : Nat) (Option.some Jvm.ClassFile.FieldType.int)) ∈ lw_all := lw_g (lw_at lw_m8 69 rfl) rfl
theorem q1872 : (Jvm.Cond.methodLink "java/lang/StringUTF16" (126 : Nat) ({ cls := "java/util/Arrays", name := "copyOfRange", desc := "([BII)[B" } : Jvm.MethodName)) ∈ lw_all := lw_g (lw_at lw_m8 70 rfl) rfl
theorem q1874 : (Jvm.Cond.static ({ cls := "java/lang/StringUTF16", name := "coderFromArrayLen", desc := "([BI)B" } : Jvm.MethodName)) ∈ lw_all := lw_g (lw_at lw_m8 72 rfl) rfl
theorem q1875 : (Jvm.Cond.code ({ cls := "java/lang/StringUTF16", name := "coderFromArrayLen", desc := "([BI)B" } : Jvm.MethodName) prog_46_method_15_code (2 : Nat) (Option.some Jvm.ClassFile.FieldType.byte)) ∈ lw_all := lw_g (lw_at lw_m8 73 rfl) rfl
theorem q2535 : (Jvm.Cond.static ({ cls := "java/lang/StringUTF16", name := "indexOf", desc := "([BIII)I" } : Jvm.MethodName)) ∈ lw_all := lw_g (lw_at lw_m11 13 rfl) rfl
theorem q2536 : (Jvm.Cond.code ({ cls := "java/lang/StringUTF16", name := "indexOf", desc := "([BIII)I" } : Jvm.MethodName) prog_46_method_40_code (4 : Nat) (Option.some Jvm.ClassFile.FieldType.int)) ∈ lw_all := lw_g (lw_at lw_m11 14 rfl) rfl
theorem q2537 : (Jvm.Cond.methodLink "java/lang/StringUTF16" (224 : Nat) ({ cls := "java/lang/Math", name := "max", desc := "(II)I" } : Jvm.MethodName)) ∈ lw_all := lw_g (lw_at lw_m11 15 rfl) rfl
theorem q2538 : (Jvm.Cond.constant "java/lang/StringUTF16" (227 : Nat) (65536 : Int32)) ∈ lw_all := lw_g (lw_at lw_m11 16 rfl) rfl
theorem q2539 : (Jvm.Cond.methodLink "java/lang/StringUTF16" (228 : Nat) ({ cls := "java/lang/StringUTF16", name := "indexOfChar", desc := "([BIII)I" } : Jvm.MethodName)) ∈ lw_all := lw_g (lw_at lw_m11 17 rfl) rfl
theorem q2540 : (Jvm.Cond.static ({ cls := "java/lang/StringUTF16", name := "indexOfChar", desc := "([BIII)I" } : Jvm.MethodName)) ∈ lw_all := lw_g (lw_at lw_m11 18 rfl) rfl
theorem q2541 : (Jvm.Cond.code ({ cls := "java/lang/StringUTF16", name := "indexOfChar", desc := "([BIII)I" } : Jvm.MethodName) prog_46_method_47_code (4 : Nat) (Option.some Jvm.ClassFile.FieldType.int)) ∈ lw_all := lw_g (lw_at lw_m11 19 rfl) rfl
theorem q2542 : (Jvm.Cond.methodLink "java/lang/StringUTF16" (244 : Nat) ({ cls := "java/lang/StringUTF16", name := "indexOfCharUnsafe", desc := "([BIII)I" } : Jvm.MethodName)) ∈ lw_all := lw_g (lw_at lw_m11 20 rfl) rfl
theorem q2543 : (Jvm.Cond.static ({ cls := "java/lang/StringUTF16", name := "indexOfCharUnsafe", desc := "([BIII)I" } : Jvm.MethodName)) ∈ lw_all := lw_g (lw_at lw_m11 21 rfl) rfl
theorem q2544 : (Jvm.Cond.code ({ cls := "java/lang/StringUTF16", name := "indexOfCharUnsafe", desc := "([BIII)I" } : Jvm.MethodName) prog_46_method_48_code (5 : Nat) (Option.some Jvm.ClassFile.FieldType.int)) ∈ lw_all := lw_g (lw_at lw_m11 22 rfl) rfl
theorem q2545 : (Jvm.Cond.methodLink "java/lang/StringUTF16" (232 : Nat) ({ cls := "java/lang/StringUTF16", name := "indexOfSupplementary", desc := "([BIII)I" } : Jvm.MethodName)) ∈ lw_all := lw_g (lw_at lw_m11 23 rfl) rfl
theorem q2546 : (Jvm.Cond.static ({ cls := "java/lang/StringUTF16", name := "indexOfSupplementary", desc := "([BIII)I" } : Jvm.MethodName)) ∈ lw_all := lw_g (lw_at lw_m11 24 rfl) rfl
theorem q2547 : (Jvm.Cond.code ({ cls := "java/lang/StringUTF16", name := "indexOfSupplementary", desc := "([BIII)I" } : Jvm.MethodName) prog_46_method_49_code (7 : Nat) (Option.some Jvm.ClassFile.FieldType.int)) ∈ lw_all := lw_g (lw_at lw_m11 25 rfl) rfl
theorem q2548 : (Jvm.Cond.methodLink "java/lang/StringUTF16" (164 : Nat) ({ cls := "java/lang/Character", name := "isValidCodePoint", desc := "(I)Z" } : Jvm.MethodName)) ∈ lw_all := lw_g (lw_at lw_m11 26 rfl) rfl
theorem q2551 : (Jvm.Cond.methodLink "java/lang/StringUTF16" (157 : Nat) ({ cls := "java/lang/Character", name := "highSurrogate", desc := "(I)C" } : Jvm.MethodName)) ∈ lw_all := lw_g (lw_at lw_m11 29 rfl) rfl
theorem q2555 : (Jvm.Cond.methodLink "java/lang/StringUTF16" (161 : Nat) ({ cls := "java/lang/Character", name := "lowSurrogate", desc := "(I)C" } : Jvm.MethodName)) ∈ lw_all := lw_g (lw_at lw_m11 33 rfl) rfl

/-! jdk/internal/util/Preconditions -/
set_option maxRecDepth 100000
def RJ14 : String := "jdk/internal/util/Preconditions"
abbrev cJ14_checkIndex : ByteArray := prog_93_method_11_code
def yJ14_checkIndex : MethodName := ⟨RJ14, "checkIndex", "(IILjava/util/function/BiFunction;)I"⟩
def dkwJ14_checkIndex_0 : List UInt8 := [26, 155, 0, 8, 26, 27, 161, 0, 10, 44, 26, 27, 184, 0, 95, 191, 26, 172]
abbrev dktJ14_checkIndex_0 : List UInt8 := dkwJ14_checkIndex_0 ++ []
theorem dksJ14_checkIndex_0 : cJ14_checkIndex.data.toList.drop 0 = dktJ14_checkIndex_0 := by decide +kernel
theorem dJ14_checkIndex_0 : decode cJ14_checkIndex 0 = .ok (.iload_n 0, 1) := dk_26 (dk_at dksJ14_checkIndex_0 0 rfl rfl)
theorem dJ14_checkIndex_1 : decode cJ14_checkIndex 1 = .ok (.ifCond .lt 8, 3) := dk_155 0 8 (dk_at dksJ14_checkIndex_0 1 rfl rfl)
theorem dJ14_checkIndex_4 : decode cJ14_checkIndex 4 = .ok (.iload_n 0, 1) := dk_26 (dk_at dksJ14_checkIndex_0 4 rfl rfl)
theorem dJ14_checkIndex_5 : decode cJ14_checkIndex 5 = .ok (.iload_n 1, 1) := dk_27 (dk_at dksJ14_checkIndex_0 5 rfl rfl)
theorem dJ14_checkIndex_6 : decode cJ14_checkIndex 6 = .ok (.if_icmp .lt 10, 3) := dk_161 0 10 (dk_at dksJ14_checkIndex_0 6 rfl rfl)
theorem dJ14_checkIndex_9 : decode cJ14_checkIndex 9 = .ok (.aload_n 2, 1) := dk_44 (dk_at dksJ14_checkIndex_0 9 rfl rfl)
theorem dJ14_checkIndex_10 : decode cJ14_checkIndex 10 = .ok (.iload_n 0, 1) := dk_26 (dk_at dksJ14_checkIndex_0 10 rfl rfl)
theorem dJ14_checkIndex_11 : decode cJ14_checkIndex 11 = .ok (.iload_n 1, 1) := dk_27 (dk_at dksJ14_checkIndex_0 11 rfl rfl)
theorem dJ14_checkIndex_12 : decode cJ14_checkIndex 12 = .ok (.invokestatic 95, 3) := dk_184 0 95 (dk_at dksJ14_checkIndex_0 12 rfl rfl)
theorem dJ14_checkIndex_15 : decode cJ14_checkIndex 15 = .ok (.athrow, 1) := dk_191 (dk_at dksJ14_checkIndex_0 15 rfl rfl)
theorem dJ14_checkIndex_16 : decode cJ14_checkIndex 16 = .ok (.iload_n 0, 1) := dk_26 (dk_at dksJ14_checkIndex_0 16 rfl rfl)
theorem dJ14_checkIndex_17 : decode cJ14_checkIndex 17 = .ok (.ireturn, 1) := dk_172 (dk_at dksJ14_checkIndex_0 17 rfl rfl)
theorem q141 : (Jvm.Cond.initialized "jdk/internal/util/Preconditions") ∈ lw_all := lw_g (lw_at lw_m1 19 rfl) rfl
theorem q596 : (Jvm.Cond.laysStatic "jdk/internal/util/Preconditions" "SIOOBE_FORMATTER" "Ljava/util/function/BiFunction;") ∈ lw_tbl := lw_at lw_m2 234 rfl
theorem q598 : (Jvm.Cond.static ({ cls := "jdk/internal/util/Preconditions", name := "checkFromToIndex", desc := "(IIILjava/util/function/BiFunction;)I" } : Jvm.MethodName)) ∈ lw_all := lw_g (lw_at lw_m2 236 rfl) rfl
theorem q599 : (Jvm.Cond.code ({ cls := "jdk/internal/util/Preconditions", name := "checkFromToIndex", desc := "(IIILjava/util/function/BiFunction;)I" } : Jvm.MethodName) prog_93_method_12_code (4 : Nat) (Option.some Jvm.ClassFile.FieldType.int)) ∈ lw_all := lw_g (lw_at lw_m2 237 rfl) rfl
theorem q1156 : (Jvm.Cond.static ({ cls := "jdk/internal/util/Preconditions", name := "checkIndex", desc := "(IILjava/util/function/BiFunction;)I" } : Jvm.MethodName)) ∈ lw_all := lw_g (lw_at lw_m5 74 rfl) rfl
theorem q1157 : (Jvm.Cond.code ({ cls := "jdk/internal/util/Preconditions", name := "checkIndex", desc := "(IILjava/util/function/BiFunction;)I" } : Jvm.MethodName) prog_93_method_11_code (3 : Nat) (Option.some Jvm.ClassFile.FieldType.int)) ∈ lw_all := lw_g (lw_at lw_m5 75 rfl) rfl
theorem q1778 : (Jvm.Cond.static ({ cls := "jdk/internal/util/Preconditions", name := "checkFromIndexSize", desc := "(IIILjava/util/function/BiFunction;)I" } : Jvm.MethodName)) ∈ lw_all := lw_g (lw_at lw_m7 216 rfl) rfl
theorem q1779 : (Jvm.Cond.code ({ cls := "jdk/internal/util/Preconditions", name := "checkFromIndexSize", desc := "(IIILjava/util/function/BiFunction;)I" } : Jvm.MethodName) prog_93_method_13_code (4 : Nat) (Option.some Jvm.ClassFile.FieldType.int)) ∈ lw_all := lw_g (lw_at lw_m7 217 rfl) rfl

/-! java/util/TreeMap$Entry -/
set_option maxRecDepth 100000
def RJ15 : String := "java/util/TreeMap$Entry"
def TJ15 : u_T := fun k => match k with
  | 0 => ("java/util/TreeMap$Entry", "key", "Ljava/lang/Object;", false)
  | 1 => ("java/util/TreeMap$Entry", "value", "Ljava/lang/Object;", false)
  | 2 => ("java/util/TreeMap$Entry", "left", "Ljava/util/TreeMap$Entry;", false)
  | 3 => ("java/util/TreeMap$Entry", "right", "Ljava/util/TreeMap$Entry;", false)
  | 4 => ("java/util/TreeMap$Entry", "parent", "Ljava/util/TreeMap$Entry;", false)
  | _ => ("java/util/TreeMap$Entry", "color", "Z", false)
def tyJ15 : Nat → FieldType := fun k => match k with
  | 0 => .object "java/lang/Object"
  | 1 => .object "java/lang/Object"
  | 2 => .object "java/util/TreeMap$Entry"
  | 3 => .object "java/util/TreeMap$Entry"
  | 4 => .object "java/util/TreeMap$Entry"
  | _ => .boolean
abbrev wsJ150 : List Cond := u_ws RJ15 TJ15 6
theorem nmJ15 : ∀ a, a < 6 → ∀ b, b < 6 → a ≠ b → (TJ15 a).2.1 ≠ (TJ15 b).2.1 := by decide +kernel
theorem tyJ15_ok : ∀ k, k < 6 → parseFieldDescriptor (TJ15 k).2.2.1 = some (tyJ15 k) := by decide +kernel
abbrev cJ15_init : ByteArray := prog_82_method_1_code
def yJ15_init : MethodName := ⟨RJ15, "<init>", "(Ljava/lang/Object;Ljava/lang/Object;Ljava/util/TreeMap$Entry;)V"⟩
def dkwJ15_init_1 : List UInt8 := [177]
abbrev dktJ15_init_1 : List UInt8 := dkwJ15_init_1 ++ []
def dkwJ15_init_0 : List UInt8 := [42, 183, 0, 3, 42, 4, 181, 0, 9, 42, 43, 181, 0, 15, 42, 44, 181, 0, 19, 42, 45, 181, 0, 22]
abbrev dktJ15_init_0 : List UInt8 := dkwJ15_init_0 ++ dktJ15_init_1
theorem dksJ15_init_0 : cJ15_init.data.toList.drop 0 = dktJ15_init_0 := by decide +kernel
theorem dksJ15_init_1 : cJ15_init.data.toList.drop 24 = dktJ15_init_1 := dk_seg dksJ15_init_0 24 rfl rfl
theorem dJ15_init_0 : decode cJ15_init 0 = .ok (.aload_n 0, 1) := dk_42 (dk_at dksJ15_init_0 0 rfl rfl)
theorem dJ15_init_1 : decode cJ15_init 1 = .ok (.invokespecial 3, 3) := dk_183 0 3 (dk_at dksJ15_init_0 1 rfl rfl)
theorem dJ15_init_4 : decode cJ15_init 4 = .ok (.aload_n 0, 1) := dk_42 (dk_at dksJ15_init_0 4 rfl rfl)
theorem dJ15_init_5 : decode cJ15_init 5 = .ok (.iconst 1, 1) := dk_4 (dk_at dksJ15_init_0 5 rfl rfl)
theorem dJ15_init_6 : decode cJ15_init 6 = .ok (.putfield 9, 3) := dk_181 0 9 (dk_at dksJ15_init_0 6 rfl rfl)
theorem dJ15_init_9 : decode cJ15_init 9 = .ok (.aload_n 0, 1) := dk_42 (dk_at dksJ15_init_0 9 rfl rfl)
theorem dJ15_init_10 : decode cJ15_init 10 = .ok (.aload_n 1, 1) := dk_43 (dk_at dksJ15_init_0 10 rfl rfl)
theorem dJ15_init_11 : decode cJ15_init 11 = .ok (.putfield 15, 3) := dk_181 0 15 (dk_at dksJ15_init_0 11 rfl rfl)
theorem dJ15_init_14 : decode cJ15_init 14 = .ok (.aload_n 0, 1) := dk_42 (dk_at dksJ15_init_0 14 rfl rfl)
theorem dJ15_init_15 : decode cJ15_init 15 = .ok (.aload_n 2, 1) := dk_44 (dk_at dksJ15_init_0 15 rfl rfl)
theorem dJ15_init_16 : decode cJ15_init 16 = .ok (.putfield 19, 3) := dk_181 0 19 (dk_at dksJ15_init_0 16 rfl rfl)
theorem dJ15_init_19 : decode cJ15_init 19 = .ok (.aload_n 0, 1) := dk_42 (dk_at dksJ15_init_0 19 rfl rfl)
theorem dJ15_init_20 : decode cJ15_init 20 = .ok (.aload_n 3, 1) := dk_45 (dk_at dksJ15_init_0 20 rfl rfl)
theorem dJ15_init_21 : decode cJ15_init 21 = .ok (.putfield 22, 3) := dk_181 0 22 (dk_at dksJ15_init_0 21 rfl rfl)
theorem dJ15_init_24 : decode cJ15_init 24 = .ok (.return_, 1) := dk_177 (dk_at dksJ15_init_1 0 rfl rfl)
abbrev cJ15_getKey : ByteArray := prog_82_method_2_code
def yJ15_getKey : MethodName := ⟨RJ15, "getKey", "()Ljava/lang/Object;"⟩
theorem dJ15_getKey_0 : decode cJ15_getKey 0 = .ok (.aload_n 0, 1) := by decide +kernel
theorem dJ15_getKey_1 : decode cJ15_getKey 1 = .ok (.getfield 15, 3) := by decide +kernel
theorem dJ15_getKey_4 : decode cJ15_getKey 4 = .ok (.areturn, 1) := by decide +kernel
abbrev cJ15_getValue : ByteArray := prog_82_method_3_code
def yJ15_getValue : MethodName := ⟨RJ15, "getValue", "()Ljava/lang/Object;"⟩
theorem dJ15_getValue_0 : decode cJ15_getValue 0 = .ok (.aload_n 0, 1) := by decide +kernel
theorem dJ15_getValue_1 : decode cJ15_getValue 1 = .ok (.getfield 19, 3) := by decide +kernel
theorem dJ15_getValue_4 : decode cJ15_getValue 4 = .ok (.areturn, 1) := by decide +kernel
theorem q142 : (Jvm.Cond.initialized "java/util/TreeMap$Entry") ∈ lw_all := lw_g (lw_at lw_m1 20 rfl) rfl
theorem q373 : (Jvm.Cond.selects "java/util/TreeMap$Entry" ({ cls := "java/lang/Object", name := "getClass", desc := "()Ljava/lang/Class;" } : Jvm.MethodName) ({ cls := "java/lang/Object", name := "getClass", desc := "()Ljava/lang/Class;" } : Jvm.MethodName)) ∈ lw_all := lw_g (lw_at lw_m2 11 rfl) rfl
theorem q635 : (Jvm.Cond.instantiable "java/util/TreeMap$Entry" (6 : Nat)) ∈ lw_all := lw_g (lw_at lw_m3 33 rfl) rfl
theorem q637 : (Jvm.Cond.instanceMethod ({ cls := "java/util/TreeMap$Entry", name := "<init>", desc := "(Ljava/lang/Object;Ljava/lang/Object;Ljava/util/TreeMap$Entry;)V" } : Jvm.MethodName)) ∈ lw_all := lw_g (lw_at lw_m3 35 rfl) rfl
theorem q638 : (Jvm.Cond.code ({ cls := "java/util/TreeMap$Entry", name := "<init>", desc := "(Ljava/lang/Object;Ljava/lang/Object;Ljava/util/TreeMap$Entry;)V" } : Jvm.MethodName) prog_82_method_1_code (4 : Nat) (Option.none : Option Jvm.ClassFile.FieldType)) ∈ lw_all := lw_g (lw_at lw_m3 36 rfl) rfl
theorem q639 : (Jvm.Cond.methodLink "java/util/TreeMap$Entry" (3 : Nat) ({ cls := "java/lang/Object", name := "<init>", desc := "()V" } : Jvm.MethodName)) ∈ lw_all := lw_g (lw_at lw_m3 37 rfl) rfl
theorem q640 : (Jvm.Cond.fieldLink "java/util/TreeMap$Entry" (15 : Nat) "java/util/TreeMap$Entry" "key" "Ljava/lang/Object;") ∈ lw_all := lw_g (lw_at lw_m3 38 rfl) rfl
theorem q643 : (Jvm.Cond.fieldLink "java/util/TreeMap$Entry" (19 : Nat) "java/util/TreeMap$Entry" "value" "Ljava/lang/Object;") ∈ lw_all := lw_g (lw_at lw_m3 41 rfl) rfl
theorem q647 : (Jvm.Cond.fieldLink "java/util/TreeMap$Entry" (22 : Nat) "java/util/TreeMap$Entry" "parent" "Ljava/util/TreeMap$Entry;") ∈ lw_all := lw_g (lw_at lw_m3 45 rfl) rfl
theorem q649 : (Jvm.Cond.fieldLink "java/util/TreeMap$Entry" (9 : Nat) "java/util/TreeMap$Entry" "color" "Z") ∈ lw_all := lw_g (lw_at lw_m3 47 rfl) rfl
theorem q651 : (Jvm.Cond.lays "java/util/TreeMap$Entry" "java/util/TreeMap$Entry" "key" "Ljava/lang/Object;") ∈ lw_all := lw_g (lw_at lw_m3 49 rfl) rfl
theorem q652 : (Jvm.Cond.soleField "java/util/TreeMap$Entry" "key") ∈ lw_all := lw_g (lw_at lw_m3 50 rfl) rfl
theorem q653 : (Jvm.Cond.lays "java/util/TreeMap$Entry" "java/util/TreeMap$Entry" "value" "Ljava/lang/Object;") ∈ lw_all := lw_g (lw_at lw_m3 51 rfl) rfl
theorem q654 : (Jvm.Cond.soleField "java/util/TreeMap$Entry" "value") ∈ lw_all := lw_g (lw_at lw_m3 52 rfl) rfl
theorem q655 : (Jvm.Cond.lays "java/util/TreeMap$Entry" "java/util/TreeMap$Entry" "left" "Ljava/util/TreeMap$Entry;") ∈ lw_all := lw_g (lw_at lw_m3 53 rfl) rfl
theorem q656 : (Jvm.Cond.soleField "java/util/TreeMap$Entry" "left") ∈ lw_all := lw_g (lw_at lw_m3 54 rfl) rfl
theorem q657 : (Jvm.Cond.lays "java/util/TreeMap$Entry" "java/util/TreeMap$Entry" "right" "Ljava/util/TreeMap$Entry;") ∈ lw_all := lw_g (lw_at lw_m3 55 rfl) rfl
theorem q658 : (Jvm.Cond.soleField "java/util/TreeMap$Entry" "right") ∈ lw_all := lw_g (lw_at lw_m3 56 rfl) rfl
theorem q659 : (Jvm.Cond.lays "java/util/TreeMap$Entry" "java/util/TreeMap$Entry" "parent" "Ljava/util/TreeMap$Entry;") ∈ lw_all := lw_g (lw_at lw_m3 57 rfl) rfl
theorem q660 : (Jvm.Cond.soleField "java/util/TreeMap$Entry" "parent") ∈ lw_all := lw_g (lw_at lw_m3 58 rfl) rfl
theorem q661 : (Jvm.Cond.lays "java/util/TreeMap$Entry" "java/util/TreeMap$Entry" "color" "Z") ∈ lw_all := lw_g (lw_at lw_m3 59 rfl) rfl
theorem q662 : (Jvm.Cond.soleField "java/util/TreeMap$Entry" "color") ∈ lw_all := lw_g (lw_at lw_m3 60 rfl) rfl
theorem q663 : (Jvm.Cond.superclass "java/util/TreeMap$Entry" "java/lang/Object") ∈ lw_all := lw_g (lw_at lw_m3 61 rfl) rfl
theorem q1073 : (Jvm.Cond.castable "java/util/TreeMap$Entry" "java/util/Map$Entry") ∈ lw_tbl := lw_at lw_m4 231 rfl
theorem q1074 : (Jvm.Cond.selects "java/util/TreeMap$Entry" ({ cls := "java/util/Map$Entry", name := "getKey", desc := "()Ljava/lang/Object;" } : Jvm.MethodName) ({ cls := "java/util/TreeMap$Entry", name := "getKey", desc := "()Ljava/lang/Object;" } : Jvm.MethodName)) ∈ lw_all := lw_g (lw_at lw_m4 232 rfl) rfl
theorem q1075 : (Jvm.Cond.unhidden "java/util/TreeMap$Entry" "getKey" "()Ljava/lang/Object;") ∈ lw_tbl := lw_at lw_m4 233 rfl
theorem q1076 : (Jvm.Cond.instanceMethod ({ cls := "java/util/TreeMap$Entry", name := "getKey", desc := "()Ljava/lang/Object;" } : Jvm.MethodName)) ∈ lw_all := lw_g (lw_at lw_m4 234 rfl) rfl
theorem q1077 : (Jvm.Cond.publicMethod ({ cls := "java/util/TreeMap$Entry", name := "getKey", desc := "()Ljava/lang/Object;" } : Jvm.MethodName)) ∈ lw_tbl := lw_at lw_m4 235 rfl
theorem q1078 : (Jvm.Cond.code ({ cls := "java/util/TreeMap$Entry", name := "getKey", desc := "()Ljava/lang/Object;" } : Jvm.MethodName) prog_82_method_2_code (1 : Nat) (Option.some (Jvm.ClassFile.FieldType.object "java/lang/Object"))) ∈ lw_all := lw_g (lw_at lw_m4 236 rfl) rfl
theorem q1083 : (Jvm.Cond.selects "java/util/TreeMap$Entry" ({ cls := "java/util/Map$Entry", name := "getValue", desc := "()Ljava/lang/Object;" } : Jvm.MethodName) ({ cls := "java/util/TreeMap$Entry", name := "getValue", desc := "()Ljava/lang/Object;" } : Jvm.MethodName)) ∈ lw_all := lw_g (lw_at lw_m5 1 rfl) rfl
theorem q1084 : (Jvm.Cond.unhidden "java/util/TreeMap$Entry" "getValue" "()Ljava/lang/Object;") ∈ lw_tbl := lw_at lw_m5 2 rfl
theorem q1085 : (Jvm.Cond.instanceMethod ({ cls := "java/util/TreeMap$Entry", name := "getValue", desc := "()Ljava/lang/Object;" } : Jvm.MethodName)) ∈ lw_all := lw_g (lw_at lw_m5 3 rfl) rfl
theorem q1086 : (Jvm.Cond.publicMethod ({ cls := "java/util/TreeMap$Entry", name := "getValue", desc := "()Ljava/lang/Object;" } : Jvm.MethodName)) ∈ lw_tbl := lw_at lw_m5 4 rfl
theorem q1087 : (Jvm.Cond.code ({ cls := "java/util/TreeMap$Entry", name := "getValue", desc := "()Ljava/lang/Object;" } : Jvm.MethodName) prog_82_method_3_code (1 : Nat) (Option.some (Jvm.ClassFile.FieldType.object "java/lang/Object"))) ∈ lw_all := lw_g (lw_at lw_m5 5 rfl) rfl
theorem q3468 : (Jvm.Cond.castable "java/util/TreeMap$Entry" "java/lang/Object") ∈ lw_tbl := lw_at lw_m14 226 rfl
theorem in_J15 : ∀ w ∈ wsJ150, w ∈ lw_all := lw_in wsJ150 [651, 653, 655, 657, 659, 661] (by decide +kernel) (by decide +kernel)

/-! java/util/Objects -/
set_option maxRecDepth 100000
def RJ16 : String := "java/util/Objects"
abbrev cJ16_requireNonNull : ByteArray := prog_70_method_10_code
def yJ16_requireNonNull : MethodName := ⟨RJ16, "requireNonNull", "(Ljava/lang/Object;)Ljava/lang/Object;"⟩
def dkwJ16_requireNonNull_0 : List UInt8 := [42, 199, 0, 11, 187, 0, 84, 89, 183, 0, 86, 191, 42, 176]
abbrev dktJ16_requireNonNull_0 : List UInt8 := dkwJ16_requireNonNull_0 ++ []
theorem dksJ16_requireNonNull_0 : cJ16_requireNonNull.data.toList.drop 0 = dktJ16_requireNonNull_0 := by decide +kernel
theorem dJ16_requireNonNull_0 : decode cJ16_requireNonNull 0 = .ok (.aload_n 0, 1) := dk_42 (dk_at dksJ16_requireNonNull_0 0 rfl rfl)
theorem dJ16_requireNonNull_1 : decode cJ16_requireNonNull 1 = .ok (.ifnonnull 11, 3) := dk_199 0 11 (dk_at dksJ16_requireNonNull_0 1 rfl rfl)
theorem dJ16_requireNonNull_4 : decode cJ16_requireNonNull 4 = .ok (.new 84, 3) := dk_187 0 84 (dk_at dksJ16_requireNonNull_0 4 rfl rfl)
theorem dJ16_requireNonNull_7 : decode cJ16_requireNonNull 7 = .ok (.dup, 1) := dk_89 (dk_at dksJ16_requireNonNull_0 7 rfl rfl)
theorem dJ16_requireNonNull_8 : decode cJ16_requireNonNull 8 = .ok (.invokespecial 86, 3) := dk_183 0 86 (dk_at dksJ16_requireNonNull_0 8 rfl rfl)
theorem dJ16_requireNonNull_11 : decode cJ16_requireNonNull 11 = .ok (.athrow, 1) := dk_191 (dk_at dksJ16_requireNonNull_0 11 rfl rfl)
theorem dJ16_requireNonNull_12 : decode cJ16_requireNonNull 12 = .ok (.aload_n 0, 1) := dk_42 (dk_at dksJ16_requireNonNull_0 12 rfl rfl)
theorem dJ16_requireNonNull_13 : decode cJ16_requireNonNull 13 = .ok (.areturn, 1) := dk_176 (dk_at dksJ16_requireNonNull_0 13 rfl rfl)
abbrev cJ16_equals : ByteArray := prog_70_method_2_code
def yJ16_equals : MethodName := ⟨RJ16, "equals", "(Ljava/lang/Object;Ljava/lang/Object;)Z"⟩
def dkwJ16_equals_0 : List UInt8 := [42, 43, 165, 0, 15, 42, 198, 0, 15, 42, 43, 182, 0, 14, 153, 0, 7, 4, 167, 0, 4, 3, 172]
abbrev dktJ16_equals_0 : List UInt8 := dkwJ16_equals_0 ++ []
theorem dksJ16_equals_0 : cJ16_equals.data.toList.drop 0 = dktJ16_equals_0 := by decide +kernel
theorem dJ16_equals_0 : decode cJ16_equals 0 = .ok (.aload_n 0, 1) := dk_42 (dk_at dksJ16_equals_0 0 rfl rfl)
theorem dJ16_equals_1 : decode cJ16_equals 1 = .ok (.aload_n 1, 1) := dk_43 (dk_at dksJ16_equals_0 1 rfl rfl)
theorem dJ16_equals_2 : decode cJ16_equals 2 = .ok (.if_acmp .eq 15, 3) := dk_165 0 15 (dk_at dksJ16_equals_0 2 rfl rfl)
theorem dJ16_equals_5 : decode cJ16_equals 5 = .ok (.aload_n 0, 1) := dk_42 (dk_at dksJ16_equals_0 5 rfl rfl)
theorem dJ16_equals_6 : decode cJ16_equals 6 = .ok (.ifnull 15, 3) := dk_198 0 15 (dk_at dksJ16_equals_0 6 rfl rfl)
theorem dJ16_equals_9 : decode cJ16_equals 9 = .ok (.aload_n 0, 1) := dk_42 (dk_at dksJ16_equals_0 9 rfl rfl)
theorem dJ16_equals_10 : decode cJ16_equals 10 = .ok (.aload_n 1, 1) := dk_43 (dk_at dksJ16_equals_0 10 rfl rfl)
theorem dJ16_equals_11 : decode cJ16_equals 11 = .ok (.invokevirtual 14, 3) := dk_182 0 14 (dk_at dksJ16_equals_0 11 rfl rfl)
theorem dJ16_equals_14 : decode cJ16_equals 14 = .ok (.ifCond .eq 7, 3) := dk_153 0 7 (dk_at dksJ16_equals_0 14 rfl rfl)
theorem dJ16_equals_17 : decode cJ16_equals 17 = .ok (.iconst 1, 1) := dk_4 (dk_at dksJ16_equals_0 17 rfl rfl)
theorem dJ16_equals_18 : decode cJ16_equals 18 = .ok (.goto 4, 3) := dk_167 0 4 (dk_at dksJ16_equals_0 18 rfl rfl)
theorem dJ16_equals_21 : decode cJ16_equals 21 = .ok (.iconst 0, 1) := dk_3 (dk_at dksJ16_equals_0 21 rfl rfl)
theorem dJ16_equals_22 : decode cJ16_equals 22 = .ok (.ireturn, 1) := dk_172 (dk_at dksJ16_equals_0 22 rfl rfl)
abbrev cJ16_checkIndex : ByteArray := prog_70_method_17_code
def yJ16_checkIndex : MethodName := ⟨RJ16, "checkIndex", "(II)I"⟩
def dkwJ16_checkIndex_0 : List UInt8 := [26, 27, 1, 184, 0, 105, 172]
abbrev dktJ16_checkIndex_0 : List UInt8 := dkwJ16_checkIndex_0 ++ []
theorem dksJ16_checkIndex_0 : cJ16_checkIndex.data.toList.drop 0 = dktJ16_checkIndex_0 := by decide +kernel
theorem dJ16_checkIndex_0 : decode cJ16_checkIndex 0 = .ok (.iload_n 0, 1) := dk_26 (dk_at dksJ16_checkIndex_0 0 rfl rfl)
theorem dJ16_checkIndex_1 : decode cJ16_checkIndex 1 = .ok (.iload_n 1, 1) := dk_27 (dk_at dksJ16_checkIndex_0 1 rfl rfl)
theorem dJ16_checkIndex_2 : decode cJ16_checkIndex 2 = .ok (.aconst_null, 1) := dk_1 (dk_at dksJ16_checkIndex_0 2 rfl rfl)
theorem dJ16_checkIndex_3 : decode cJ16_checkIndex 3 = .ok (.invokestatic 105, 3) := dk_184 0 105 (dk_at dksJ16_checkIndex_0 3 rfl rfl)
theorem dJ16_checkIndex_6 : decode cJ16_checkIndex 6 = .ok (.ireturn, 1) := dk_172 (dk_at dksJ16_checkIndex_0 6 rfl rfl)
theorem q143 : (Jvm.Cond.initialized "java/util/Objects") ∈ lw_all := lw_g (lw_at lw_m1 21 rfl) rfl
theorem q665 : (Jvm.Cond.static ({ cls := "java/util/Objects", name := "requireNonNull", desc := "(Ljava/lang/Object;)Ljava/lang/Object;" } : Jvm.MethodName)) ∈ lw_all := lw_g (lw_at lw_m3 63 rfl) rfl
theorem q666 : (Jvm.Cond.code ({ cls := "java/util/Objects", name := "requireNonNull", desc := "(Ljava/lang/Object;)Ljava/lang/Object;" } : Jvm.MethodName) prog_70_method_10_code (1 : Nat) (Option.some (Jvm.ClassFile.FieldType.object "java/lang/Object"))) ∈ lw_all := lw_g (lw_at lw_m3 64 rfl) rfl
theorem q751 : (Jvm.Cond.static ({ cls := "java/util/Objects", name := "equals", desc := "(Ljava/lang/Object;Ljava/lang/Object;)Z" } : Jvm.MethodName)) ∈ lw_all := lw_g (lw_at lw_m3 149 rfl) rfl
theorem q752 : (Jvm.Cond.code ({ cls := "java/util/Objects", name := "equals", desc := "(Ljava/lang/Object;Ljava/lang/Object;)Z" } : Jvm.MethodName) prog_70_method_2_code (2 : Nat) (Option.some Jvm.ClassFile.FieldType.boolean)) ∈ lw_all := lw_g (lw_at lw_m3 150 rfl) rfl
theorem q754 : (Jvm.Cond.methodLink "java/util/Objects" (14 : Nat) ({ cls := "java/lang/Object", name := "equals", desc := "(Ljava/lang/Object;)Z" } : Jvm.MethodName)) ∈ lw_all := lw_g (lw_at lw_m3 152 rfl) rfl
theorem q1153 : (Jvm.Cond.static ({ cls := "java/util/Objects", name := "checkIndex", desc := "(II)I" } : Jvm.MethodName)) ∈ lw_all := lw_g (lw_at lw_m5 71 rfl) rfl
theorem q1154 : (Jvm.Cond.code ({ cls := "java/util/Objects", name := "checkIndex", desc := "(II)I" } : Jvm.MethodName) prog_70_method_17_code (2 : Nat) (Option.some Jvm.ClassFile.FieldType.int)) ∈ lw_all := lw_g (lw_at lw_m5 72 rfl) rfl
theorem q1155 : (Jvm.Cond.methodLink "java/util/Objects" (105 : Nat) ({ cls := "jdk/internal/util/Preconditions", name := "checkIndex", desc := "(IILjava/util/function/BiFunction;)I" } : Jvm.MethodName)) ∈ lw_all := lw_g (lw_at lw_m5 73 rfl) rfl

/-! java/util/AbstractSet -/
set_option maxRecDepth 100000
def RJ17 : String := "java/util/AbstractSet"
abbrev cJ17_init : ByteArray := prog_55_method_1_code
def yJ17_init : MethodName := ⟨RJ17, "<init>", "()V"⟩
theorem dJ17_init_0 : decode cJ17_init 0 = .ok (.aload_n 0, 1) := by decide +kernel
theorem dJ17_init_1 : decode cJ17_init 1 = .ok (.invokespecial 1, 3) := by decide +kernel
theorem dJ17_init_4 : decode cJ17_init 4 = .ok (.return_, 1) := by decide +kernel
theorem q144 : (Jvm.Cond.initialized "java/util/AbstractSet") ∈ lw_all := lw_g (lw_at lw_m1 22 rfl) rfl
theorem q817 : (Jvm.Cond.instanceMethod ({ cls := "java/util/AbstractSet", name := "<init>", desc := "()V" } : Jvm.MethodName)) ∈ lw_all := lw_g (lw_at lw_m3 215 rfl) rfl
theorem q818 : (Jvm.Cond.code ({ cls := "java/util/AbstractSet", name := "<init>", desc := "()V" } : Jvm.MethodName) prog_55_method_1_code (1 : Nat) (Option.none : Option Jvm.ClassFile.FieldType)) ∈ lw_all := lw_g (lw_at lw_m3 216 rfl) rfl
theorem q819 : (Jvm.Cond.methodLink "java/util/AbstractSet" (1 : Nat) ({ cls := "java/util/AbstractCollection", name := "<init>", desc := "()V" } : Jvm.MethodName)) ∈ lw_all := lw_g (lw_at lw_m3 217 rfl) rfl

/-! java/util/TreeMap$EntrySet -/
set_option maxRecDepth 100000
def RJ18 : String := "java/util/TreeMap$EntrySet"
def TJ18 : u_T := fun k => match k with
  | _ => ("java/util/TreeMap$EntrySet", "this$0", "Ljava/util/TreeMap;", true)
def tyJ18 : Nat → FieldType := fun k => match k with
  | _ => .object "java/util/TreeMap"
abbrev wsJ180 : List Cond := u_ws RJ18 TJ18 1
theorem nmJ18 : ∀ a, a < 1 → ∀ b, b < 1 → a ≠ b → (TJ18 a).2.1 ≠ (TJ18 b).2.1 := by decide +kernel
theorem tyJ18_ok : ∀ k, k < 1 → parseFieldDescriptor (TJ18 k).2.2.1 = some (tyJ18 k) := by decide +kernel
abbrev cJ18_init : ByteArray := prog_84_method_1_code
def yJ18_init : MethodName := ⟨RJ18, "<init>", "(Ljava/util/TreeMap;)V"⟩
def dkwJ18_init_0 : List UInt8 := [42, 43, 181, 0, 1, 42, 183, 0, 7, 177]
abbrev dktJ18_init_0 : List UInt8 := dkwJ18_init_0 ++ []
theorem dksJ18_init_0 : cJ18_init.data.toList.drop 0 = dktJ18_init_0 := by decide +kernel
theorem dJ18_init_0 : decode cJ18_init 0 = .ok (.aload_n 0, 1) := dk_42 (dk_at dksJ18_init_0 0 rfl rfl)
theorem dJ18_init_1 : decode cJ18_init 1 = .ok (.aload_n 1, 1) := dk_43 (dk_at dksJ18_init_0 1 rfl rfl)
theorem dJ18_init_2 : decode cJ18_init 2 = .ok (.putfield 1, 3) := dk_181 0 1 (dk_at dksJ18_init_0 2 rfl rfl)
theorem dJ18_init_5 : decode cJ18_init 5 = .ok (.aload_n 0, 1) := dk_42 (dk_at dksJ18_init_0 5 rfl rfl)
theorem dJ18_init_6 : decode cJ18_init 6 = .ok (.invokespecial 7, 3) := dk_183 0 7 (dk_at dksJ18_init_0 6 rfl rfl)
theorem dJ18_init_9 : decode cJ18_init 9 = .ok (.return_, 1) := dk_177 (dk_at dksJ18_init_0 9 rfl rfl)
abbrev cJ18_iterator : ByteArray := prog_84_method_2_code
def yJ18_iterator : MethodName := ⟨RJ18, "iterator", "()Ljava/util/Iterator;"⟩
def dkwJ18_iterator_0 : List UInt8 := [187, 0, 13, 89, 42, 180, 0, 1, 42, 180, 0, 1, 182, 0, 15, 183, 0, 21, 176]
abbrev dktJ18_iterator_0 : List UInt8 := dkwJ18_iterator_0 ++ []
theorem dksJ18_iterator_0 : cJ18_iterator.data.toList.drop 0 = dktJ18_iterator_0 := by decide +kernel
theorem dJ18_iterator_0 : decode cJ18_iterator 0 = .ok (.new 13, 3) := dk_187 0 13 (dk_at dksJ18_iterator_0 0 rfl rfl)
theorem dJ18_iterator_3 : decode cJ18_iterator 3 = .ok (.dup, 1) := dk_89 (dk_at dksJ18_iterator_0 3 rfl rfl)
theorem dJ18_iterator_4 : decode cJ18_iterator 4 = .ok (.aload_n 0, 1) := dk_42 (dk_at dksJ18_iterator_0 4 rfl rfl)
theorem dJ18_iterator_5 : decode cJ18_iterator 5 = .ok (.getfield 1, 3) := dk_180 0 1 (dk_at dksJ18_iterator_0 5 rfl rfl)
theorem dJ18_iterator_8 : decode cJ18_iterator 8 = .ok (.aload_n 0, 1) := dk_42 (dk_at dksJ18_iterator_0 8 rfl rfl)
theorem dJ18_iterator_9 : decode cJ18_iterator 9 = .ok (.getfield 1, 3) := dk_180 0 1 (dk_at dksJ18_iterator_0 9 rfl rfl)
theorem dJ18_iterator_12 : decode cJ18_iterator 12 = .ok (.invokevirtual 15, 3) := dk_182 0 15 (dk_at dksJ18_iterator_0 12 rfl rfl)
theorem dJ18_iterator_15 : decode cJ18_iterator 15 = .ok (.invokespecial 21, 3) := dk_183 0 21 (dk_at dksJ18_iterator_0 15 rfl rfl)
theorem dJ18_iterator_18 : decode cJ18_iterator 18 = .ok (.areturn, 1) := dk_176 (dk_at dksJ18_iterator_0 18 rfl rfl)
theorem q145 : (Jvm.Cond.initialized "java/util/TreeMap$EntrySet") ∈ lw_all := lw_g (lw_at lw_m1 23 rfl) rfl
theorem q375 : (Jvm.Cond.selects "java/util/TreeMap$EntrySet" ({ cls := "java/lang/Object", name := "getClass", desc := "()Ljava/lang/Class;" } : Jvm.MethodName) ({ cls := "java/lang/Object", name := "getClass", desc := "()Ljava/lang/Class;" } : Jvm.MethodName)) ∈ lw_all := lw_g (lw_at lw_m2 13 rfl) rfl
theorem q812 : (Jvm.Cond.instantiable "java/util/TreeMap$EntrySet" (1 : Nat)) ∈ lw_all := lw_g (lw_at lw_m3 210 rfl) rfl
theorem q814 : (Jvm.Cond.instanceMethod ({ cls := "java/util/TreeMap$EntrySet", name := "<init>", desc := "(Ljava/util/TreeMap;)V" } : Jvm.MethodName)) ∈ lw_all := lw_g (lw_at lw_m3 212 rfl) rfl
theorem q815 : (Jvm.Cond.code ({ cls := "java/util/TreeMap$EntrySet", name := "<init>", desc := "(Ljava/util/TreeMap;)V" } : Jvm.MethodName) prog_84_method_1_code (2 : Nat) (Option.none : Option Jvm.ClassFile.FieldType)) ∈ lw_all := lw_g (lw_at lw_m3 213 rfl) rfl
theorem q816 : (Jvm.Cond.methodLink "java/util/TreeMap$EntrySet" (7 : Nat) ({ cls := "java/util/AbstractSet", name := "<init>", desc := "()V" } : Jvm.MethodName)) ∈ lw_all := lw_g (lw_at lw_m3 214 rfl) rfl
theorem q820 : (Jvm.Cond.fieldLink "java/util/TreeMap$EntrySet" (1 : Nat) "java/util/TreeMap$EntrySet" "this$0" "Ljava/util/TreeMap;") ∈ lw_all := lw_g (lw_at lw_m3 218 rfl) rfl
theorem q821 : (Jvm.Cond.laysFinal "java/util/TreeMap$EntrySet" "java/util/TreeMap$EntrySet" "this$0" "Ljava/util/TreeMap;") ∈ lw_all := lw_g (lw_at lw_m3 219 rfl) rfl
theorem q822 : (Jvm.Cond.soleField "java/util/TreeMap$EntrySet" "this$0") ∈ lw_all := lw_g (lw_at lw_m3 220 rfl) rfl
theorem q823 : (Jvm.Cond.superclass "java/util/TreeMap$EntrySet" "java/util/AbstractSet") ∈ lw_all := lw_g (lw_at lw_m3 221 rfl) rfl
theorem q828 : (Jvm.Cond.castable "java/util/TreeMap$EntrySet" "java/util/Set") ∈ lw_tbl := lw_at lw_m3 226 rfl
theorem q829 : (Jvm.Cond.selects "java/util/TreeMap$EntrySet" ({ cls := "java/util/Set", name := "iterator", desc := "()Ljava/util/Iterator;" } : Jvm.MethodName) ({ cls := "java/util/TreeMap$EntrySet", name := "iterator", desc := "()Ljava/util/Iterator;" } : Jvm.MethodName)) ∈ lw_all := lw_g (lw_at lw_m3 227 rfl) rfl
theorem q830 : (Jvm.Cond.unhidden "java/util/TreeMap$EntrySet" "iterator" "()Ljava/util/Iterator;") ∈ lw_tbl := lw_at lw_m3 228 rfl
theorem q831 : (Jvm.Cond.instanceMethod ({ cls := "java/util/TreeMap$EntrySet", name := "iterator", desc := "()Ljava/util/Iterator;" } : Jvm.MethodName)) ∈ lw_all := lw_g (lw_at lw_m3 229 rfl) rfl
theorem q832 : (Jvm.Cond.publicMethod ({ cls := "java/util/TreeMap$EntrySet", name := "iterator", desc := "()Ljava/util/Iterator;" } : Jvm.MethodName)) ∈ lw_tbl := lw_at lw_m3 230 rfl
theorem q833 : (Jvm.Cond.code ({ cls := "java/util/TreeMap$EntrySet", name := "iterator", desc := "()Ljava/util/Iterator;" } : Jvm.MethodName) prog_84_method_2_code (1 : Nat) (Option.some (Jvm.ClassFile.FieldType.object "java/util/Iterator"))) ∈ lw_all := lw_g (lw_at lw_m3 231 rfl) rfl
theorem q834 : (Jvm.Cond.classLink "java/util/TreeMap$EntrySet" (13 : Nat) "java/util/TreeMap$EntryIterator") ∈ lw_all := lw_g (lw_at lw_m3 232 rfl) rfl
theorem q836 : (Jvm.Cond.methodLink "java/util/TreeMap$EntrySet" (15 : Nat) ({ cls := "java/util/TreeMap", name := "getFirstEntry", desc := "()Ljava/util/TreeMap$Entry;" } : Jvm.MethodName)) ∈ lw_all := lw_g (lw_at lw_m3 234 rfl) rfl
theorem q840 : (Jvm.Cond.methodLink "java/util/TreeMap$EntrySet" (21 : Nat) ({ cls := "java/util/TreeMap$EntryIterator", name := "<init>", desc := "(Ljava/util/TreeMap;Ljava/util/TreeMap$Entry;)V" } : Jvm.MethodName)) ∈ lw_all := lw_g (lw_at lw_m3 238 rfl) rfl
theorem q1431 : (Jvm.Cond.castable "java/util/TreeMap$EntrySet" "java/util/Collection") ∈ lw_tbl := lw_at lw_m6 109 rfl
theorem q1432 : (Jvm.Cond.selects "java/util/TreeMap$EntrySet" ({ cls := "java/util/Collection", name := "toArray", desc := "()[Ljava/lang/Object;" } : Jvm.MethodName) ({ cls := "java/util/AbstractCollection", name := "toArray", desc := "()[Ljava/lang/Object;" } : Jvm.MethodName)) ∈ lw_all := lw_g (lw_at lw_m6 110 rfl) rfl
theorem q1433 : (Jvm.Cond.unhidden "java/util/TreeMap$EntrySet" "toArray" "()[Ljava/lang/Object;") ∈ lw_tbl := lw_at lw_m6 111 rfl
theorem q1444 : (Jvm.Cond.selects "java/util/TreeMap$EntrySet" ({ cls := "java/util/AbstractCollection", name := "size", desc := "()I" } : Jvm.MethodName) ({ cls := "java/util/TreeMap$EntrySet", name := "size", desc := "()I" } : Jvm.MethodName)) ∈ lw_all := lw_g (lw_at lw_m6 122 rfl) rfl
theorem q1445 : (Jvm.Cond.instanceMethod ({ cls := "java/util/TreeMap$EntrySet", name := "size", desc := "()I" } : Jvm.MethodName)) ∈ lw_all := lw_g (lw_at lw_m6 123 rfl) rfl
theorem q1446 : (Jvm.Cond.code ({ cls := "java/util/TreeMap$EntrySet", name := "size", desc := "()I" } : Jvm.MethodName) prog_84_method_5_code (1 : Nat) (Option.some Jvm.ClassFile.FieldType.int)) ∈ lw_all := lw_g (lw_at lw_m6 124 rfl) rfl
theorem q1447 : (Jvm.Cond.methodLink "java/util/TreeMap$EntrySet" (48 : Nat) ({ cls := "java/util/TreeMap", name := "size", desc := "()I" } : Jvm.MethodName)) ∈ lw_all := lw_g (lw_at lw_m6 125 rfl) rfl
theorem q1511 : (Jvm.Cond.selects "java/util/TreeMap$EntrySet" ({ cls := "java/util/AbstractCollection", name := "iterator", desc := "()Ljava/util/Iterator;" } : Jvm.MethodName) ({ cls := "java/util/TreeMap$EntrySet", name := "iterator", desc := "()Ljava/util/Iterator;" } : Jvm.MethodName)) ∈ lw_all := lw_g (lw_at lw_m6 189 rfl) rfl
theorem q1536 : (Jvm.Cond.unhidden "java/util/TreeMap$EntrySet" "getClass" "()Ljava/lang/Class;") ∈ lw_tbl := lw_at lw_m6 214 rfl
theorem q3469 : (Jvm.Cond.castable "java/util/TreeMap$EntrySet" "java/lang/Object") ∈ lw_tbl := lw_at lw_m14 227 rfl
theorem in_J18 : ∀ w ∈ wsJ180, w ∈ lw_all := lw_in wsJ180 [821] (by decide +kernel) (by decide +kernel)

/-! java/util/TreeMap$PrivateEntryIterator -/
set_option maxRecDepth 100000
def RJ19 : String := "java/util/TreeMap$PrivateEntryIterator"
abbrev cJ19_init : ByteArray := prog_88_method_1_code
def yJ19_init : MethodName := ⟨RJ19, "<init>", "(Ljava/util/TreeMap;Ljava/util/TreeMap$Entry;)V"⟩
def dkwJ19_init_1 : List UInt8 := [181, 0, 26, 177]
abbrev dktJ19_init_1 : List UInt8 := dkwJ19_init_1 ++ []
def dkwJ19_init_0 : List UInt8 := [42, 43, 181, 0, 1, 42, 183, 0, 7, 42, 43, 180, 0, 13, 181, 0, 19, 42, 1, 181, 0, 22, 42, 44]
abbrev dktJ19_init_0 : List UInt8 := dkwJ19_init_0 ++ dktJ19_init_1
theorem dksJ19_init_0 : cJ19_init.data.toList.drop 0 = dktJ19_init_0 := by decide +kernel
theorem dksJ19_init_1 : cJ19_init.data.toList.drop 24 = dktJ19_init_1 := dk_seg dksJ19_init_0 24 rfl rfl
theorem dJ19_init_0 : decode cJ19_init 0 = .ok (.aload_n 0, 1) := dk_42 (dk_at dksJ19_init_0 0 rfl rfl)
theorem dJ19_init_1 : decode cJ19_init 1 = .ok (.aload_n 1, 1) := dk_43 (dk_at dksJ19_init_0 1 rfl rfl)
theorem dJ19_init_2 : decode cJ19_init 2 = .ok (.putfield 1, 3) := dk_181 0 1 (dk_at dksJ19_init_0 2 rfl rfl)
theorem dJ19_init_5 : decode cJ19_init 5 = .ok (.aload_n 0, 1) := dk_42 (dk_at dksJ19_init_0 5 rfl rfl)
theorem dJ19_init_6 : decode cJ19_init 6 = .ok (.invokespecial 7, 3) := dk_183 0 7 (dk_at dksJ19_init_0 6 rfl rfl)
theorem dJ19_init_9 : decode cJ19_init 9 = .ok (.aload_n 0, 1) := dk_42 (dk_at dksJ19_init_0 9 rfl rfl)
theorem dJ19_init_10 : decode cJ19_init 10 = .ok (.aload_n 1, 1) := dk_43 (dk_at dksJ19_init_0 10 rfl rfl)
theorem dJ19_init_11 : decode cJ19_init 11 = .ok (.getfield 13, 3) := dk_180 0 13 (dk_at dksJ19_init_0 11 rfl rfl)
theorem dJ19_init_14 : decode cJ19_init 14 = .ok (.putfield 19, 3) := dk_181 0 19 (dk_at dksJ19_init_0 14 rfl rfl)
theorem dJ19_init_17 : decode cJ19_init 17 = .ok (.aload_n 0, 1) := dk_42 (dk_at dksJ19_init_0 17 rfl rfl)
theorem dJ19_init_18 : decode cJ19_init 18 = .ok (.aconst_null, 1) := dk_1 (dk_at dksJ19_init_0 18 rfl rfl)
theorem dJ19_init_19 : decode cJ19_init 19 = .ok (.putfield 22, 3) := dk_181 0 22 (dk_at dksJ19_init_0 19 rfl rfl)
theorem dJ19_init_22 : decode cJ19_init 22 = .ok (.aload_n 0, 1) := dk_42 (dk_at dksJ19_init_0 22 rfl rfl)
theorem dJ19_init_23 : decode cJ19_init 23 = .ok (.aload_n 2, 1) := dk_44 (dk_at dksJ19_init_0 23 rfl rfl)
theorem dJ19_init_24 : decode cJ19_init 24 = .ok (.putfield 26, 3) := dk_181 0 26 (dk_at dksJ19_init_1 0 rfl rfl)
theorem dJ19_init_27 : decode cJ19_init 27 = .ok (.return_, 1) := dk_177 (dk_at dksJ19_init_1 3 rfl rfl)
abbrev cJ19_nextEntry : ByteArray := prog_88_method_3_code
def yJ19_nextEntry : MethodName := ⟨RJ19, "nextEntry", "()Ljava/util/TreeMap$Entry;"⟩
def dkwJ19_nextEntry_2 : List UInt8 := [43, 181, 0, 22, 43, 176]
abbrev dktJ19_nextEntry_2 : List UInt8 := dkwJ19_nextEntry_2 ++ []
def dkwJ19_nextEntry_1 : List UInt8 := [42, 180, 0, 19, 159, 0, 11, 187, 0, 32, 89, 183, 0, 34, 191, 42, 43, 184, 0, 35, 181, 0, 26, 42]
abbrev dktJ19_nextEntry_1 : List UInt8 := dkwJ19_nextEntry_1 ++ dktJ19_nextEntry_2
def dkwJ19_nextEntry_0 : List UInt8 := [42, 180, 0, 26, 76, 43, 199, 0, 11, 187, 0, 29, 89, 183, 0, 31, 191, 42, 180, 0, 1, 180, 0, 13]
abbrev dktJ19_nextEntry_0 : List UInt8 := dkwJ19_nextEntry_0 ++ dktJ19_nextEntry_1
theorem dksJ19_nextEntry_0 : cJ19_nextEntry.data.toList.drop 0 = dktJ19_nextEntry_0 := by decide +kernel
theorem dksJ19_nextEntry_1 : cJ19_nextEntry.data.toList.drop 24 = dktJ19_nextEntry_1 := dk_seg dksJ19_nextEntry_0 24 rfl rfl
theorem dksJ19_nextEntry_2 : cJ19_nextEntry.data.toList.drop 48 = dktJ19_nextEntry_2 := dk_seg dksJ19_nextEntry_1 24 rfl rfl
theorem dJ19_nextEntry_0 : decode cJ19_nextEntry 0 = .ok (.aload_n 0, 1) := dk_42 (dk_at dksJ19_nextEntry_0 0 rfl rfl)
theorem dJ19_nextEntry_1 : decode cJ19_nextEntry 1 = .ok (.getfield 26, 3) := dk_180 0 26 (dk_at dksJ19_nextEntry_0 1 rfl rfl)
theorem dJ19_nextEntry_4 : decode cJ19_nextEntry 4 = .ok (.astore_n 1, 1) := dk_76 (dk_at dksJ19_nextEntry_0 4 rfl rfl)
theorem dJ19_nextEntry_5 : decode cJ19_nextEntry 5 = .ok (.aload_n 1, 1) := dk_43 (dk_at dksJ19_nextEntry_0 5 rfl rfl)
theorem dJ19_nextEntry_6 : decode cJ19_nextEntry 6 = .ok (.ifnonnull 11, 3) := dk_199 0 11 (dk_at dksJ19_nextEntry_0 6 rfl rfl)
theorem dJ19_nextEntry_9 : decode cJ19_nextEntry 9 = .ok (.new 29, 3) := dk_187 0 29 (dk_at dksJ19_nextEntry_0 9 rfl rfl)
theorem dJ19_nextEntry_12 : decode cJ19_nextEntry 12 = .ok (.dup, 1) := dk_89 (dk_at dksJ19_nextEntry_0 12 rfl rfl)
theorem dJ19_nextEntry_13 : decode cJ19_nextEntry 13 = .ok (.invokespecial 31, 3) := dk_183 0 31 (dk_at dksJ19_nextEntry_0 13 rfl rfl)
theorem dJ19_nextEntry_16 : decode cJ19_nextEntry 16 = .ok (.athrow, 1) := dk_191 (dk_at dksJ19_nextEntry_0 16 rfl rfl)
theorem dJ19_nextEntry_17 : decode cJ19_nextEntry 17 = .ok (.aload_n 0, 1) := dk_42 (dk_at dksJ19_nextEntry_0 17 rfl rfl)
theorem dJ19_nextEntry_18 : decode cJ19_nextEntry 18 = .ok (.getfield 1, 3) := dk_180 0 1 (dk_at dksJ19_nextEntry_0 18 rfl rfl)
theorem dJ19_nextEntry_21 : decode cJ19_nextEntry 21 = .ok (.getfield 13, 3) := dk_180 0 13 (dk_at dksJ19_nextEntry_0 21 rfl rfl)
theorem dJ19_nextEntry_24 : decode cJ19_nextEntry 24 = .ok (.aload_n 0, 1) := dk_42 (dk_at dksJ19_nextEntry_1 0 rfl rfl)
theorem dJ19_nextEntry_25 : decode cJ19_nextEntry 25 = .ok (.getfield 19, 3) := dk_180 0 19 (dk_at dksJ19_nextEntry_1 1 rfl rfl)
theorem dJ19_nextEntry_28 : decode cJ19_nextEntry 28 = .ok (.if_icmp .eq 11, 3) := dk_159 0 11 (dk_at dksJ19_nextEntry_1 4 rfl rfl)
theorem dJ19_nextEntry_31 : decode cJ19_nextEntry 31 = .ok (.new 32, 3) := dk_187 0 32 (dk_at dksJ19_nextEntry_1 7 rfl rfl)
theorem dJ19_nextEntry_34 : decode cJ19_nextEntry 34 = .ok (.dup, 1) := dk_89 (dk_at dksJ19_nextEntry_1 10 rfl rfl)
theorem dJ19_nextEntry_35 : decode cJ19_nextEntry 35 = .ok (.invokespecial 34, 3) := dk_183 0 34 (dk_at dksJ19_nextEntry_1 11 rfl rfl)
theorem dJ19_nextEntry_38 : decode cJ19_nextEntry 38 = .ok (.athrow, 1) := dk_191 (dk_at dksJ19_nextEntry_1 14 rfl rfl)
theorem dJ19_nextEntry_39 : decode cJ19_nextEntry 39 = .ok (.aload_n 0, 1) := dk_42 (dk_at dksJ19_nextEntry_1 15 rfl rfl)
theorem dJ19_nextEntry_40 : decode cJ19_nextEntry 40 = .ok (.aload_n 1, 1) := dk_43 (dk_at dksJ19_nextEntry_1 16 rfl rfl)
theorem dJ19_nextEntry_41 : decode cJ19_nextEntry 41 = .ok (.invokestatic 35, 3) := dk_184 0 35 (dk_at dksJ19_nextEntry_1 17 rfl rfl)
theorem dJ19_nextEntry_44 : decode cJ19_nextEntry 44 = .ok (.putfield 26, 3) := dk_181 0 26 (dk_at dksJ19_nextEntry_1 20 rfl rfl)
theorem dJ19_nextEntry_47 : decode cJ19_nextEntry 47 = .ok (.aload_n 0, 1) := dk_42 (dk_at dksJ19_nextEntry_1 23 rfl rfl)
theorem dJ19_nextEntry_48 : decode cJ19_nextEntry 48 = .ok (.aload_n 1, 1) := dk_43 (dk_at dksJ19_nextEntry_2 0 rfl rfl)
theorem dJ19_nextEntry_49 : decode cJ19_nextEntry 49 = .ok (.putfield 22, 3) := dk_181 0 22 (dk_at dksJ19_nextEntry_2 1 rfl rfl)
theorem dJ19_nextEntry_52 : decode cJ19_nextEntry 52 = .ok (.aload_n 1, 1) := dk_43 (dk_at dksJ19_nextEntry_2 4 rfl rfl)
theorem dJ19_nextEntry_53 : decode cJ19_nextEntry 53 = .ok (.areturn, 1) := dk_176 (dk_at dksJ19_nextEntry_2 5 rfl rfl)
abbrev cJ19_hasNext : ByteArray := prog_88_method_2_code
def yJ19_hasNext : MethodName := ⟨RJ19, "hasNext", "()Z"⟩
def dkwJ19_hasNext_0 : List UInt8 := [42, 180, 0, 26, 198, 0, 7, 4, 167, 0, 4, 3, 172]
abbrev dktJ19_hasNext_0 : List UInt8 := dkwJ19_hasNext_0 ++ []
theorem dksJ19_hasNext_0 : cJ19_hasNext.data.toList.drop 0 = dktJ19_hasNext_0 := by decide +kernel
theorem dJ19_hasNext_0 : decode cJ19_hasNext 0 = .ok (.aload_n 0, 1) := dk_42 (dk_at dksJ19_hasNext_0 0 rfl rfl)
theorem dJ19_hasNext_1 : decode cJ19_hasNext 1 = .ok (.getfield 26, 3) := dk_180 0 26 (dk_at dksJ19_hasNext_0 1 rfl rfl)
theorem dJ19_hasNext_4 : decode cJ19_hasNext 4 = .ok (.ifnull 7, 3) := dk_198 0 7 (dk_at dksJ19_hasNext_0 4 rfl rfl)
theorem dJ19_hasNext_7 : decode cJ19_hasNext 7 = .ok (.iconst 1, 1) := dk_4 (dk_at dksJ19_hasNext_0 7 rfl rfl)
theorem dJ19_hasNext_8 : decode cJ19_hasNext 8 = .ok (.goto 4, 3) := dk_167 0 4 (dk_at dksJ19_hasNext_0 8 rfl rfl)
theorem dJ19_hasNext_11 : decode cJ19_hasNext 11 = .ok (.iconst 0, 1) := dk_3 (dk_at dksJ19_hasNext_0 11 rfl rfl)
theorem dJ19_hasNext_12 : decode cJ19_hasNext 12 = .ok (.ireturn, 1) := dk_172 (dk_at dksJ19_hasNext_0 12 rfl rfl)
theorem q146 : (Jvm.Cond.initialized "java/util/TreeMap$PrivateEntryIterator") ∈ lw_all := lw_g (lw_at lw_m1 24 rfl) rfl
theorem q217 : (Jvm.Cond.fieldLinkNest "java/util/TreeMap$PrivateEntryIterator" (13 : Nat) "java/util/TreeMap" "modCount" "I" "java/util/TreeMap") ∈ lw_tbl := lw_at lw_m1 95 rfl
theorem q844 : (Jvm.Cond.instanceMethod ({ cls := "java/util/TreeMap$PrivateEntryIterator", name := "<init>", desc := "(Ljava/util/TreeMap;Ljava/util/TreeMap$Entry;)V" } : Jvm.MethodName)) ∈ lw_all := lw_g (lw_at lw_m4 2 rfl) rfl
theorem q845 : (Jvm.Cond.code ({ cls := "java/util/TreeMap$PrivateEntryIterator", name := "<init>", desc := "(Ljava/util/TreeMap;Ljava/util/TreeMap$Entry;)V" } : Jvm.MethodName) prog_88_method_1_code (3 : Nat) (Option.none : Option Jvm.ClassFile.FieldType)) ∈ lw_all := lw_g (lw_at lw_m4 3 rfl) rfl
theorem q846 : (Jvm.Cond.methodLink "java/util/TreeMap$PrivateEntryIterator" (7 : Nat) ({ cls := "java/lang/Object", name := "<init>", desc := "()V" } : Jvm.MethodName)) ∈ lw_all := lw_g (lw_at lw_m4 4 rfl) rfl
theorem q847 : (Jvm.Cond.fieldLink "java/util/TreeMap$PrivateEntryIterator" (26 : Nat) "java/util/TreeMap$PrivateEntryIterator" "next" "Ljava/util/TreeMap$Entry;") ∈ lw_all := lw_g (lw_at lw_m4 5 rfl) rfl
theorem q848 : (Jvm.Cond.fieldLink "java/util/TreeMap$PrivateEntryIterator" (22 : Nat) "java/util/TreeMap$PrivateEntryIterator" "lastReturned" "Ljava/util/TreeMap$Entry;") ∈ lw_all := lw_g (lw_at lw_m4 6 rfl) rfl
theorem q849 : (Jvm.Cond.fieldLink "java/util/TreeMap$PrivateEntryIterator" (19 : Nat) "java/util/TreeMap$PrivateEntryIterator" "expectedModCount" "I") ∈ lw_all := lw_g (lw_at lw_m4 7 rfl) rfl
theorem q850 : (Jvm.Cond.fieldLink "java/util/TreeMap$PrivateEntryIterator" (1 : Nat) "java/util/TreeMap$PrivateEntryIterator" "this$0" "Ljava/util/TreeMap;") ∈ lw_all := lw_g (lw_at lw_m4 8 rfl) rfl
theorem q852 : (Jvm.Cond.soleField "java/util/TreeMap$PrivateEntryIterator" "next") ∈ lw_all := lw_g (lw_at lw_m4 10 rfl) rfl
theorem q854 : (Jvm.Cond.soleField "java/util/TreeMap$PrivateEntryIterator" "lastReturned") ∈ lw_all := lw_g (lw_at lw_m4 12 rfl) rfl
theorem q856 : (Jvm.Cond.soleField "java/util/TreeMap$PrivateEntryIterator" "expectedModCount") ∈ lw_all := lw_g (lw_at lw_m4 14 rfl) rfl
theorem q858 : (Jvm.Cond.soleField "java/util/TreeMap$PrivateEntryIterator" "this$0") ∈ lw_all := lw_g (lw_at lw_m4 16 rfl) rfl
theorem q1050 : (Jvm.Cond.declares ({ cls := "java/util/TreeMap$PrivateEntryIterator", name := "nextEntry", desc := "()Ljava/util/TreeMap$Entry;" } : Jvm.MethodName)) ∈ lw_tbl := lw_at lw_m4 208 rfl
theorem q1052 : (Jvm.Cond.instanceMethod ({ cls := "java/util/TreeMap$PrivateEntryIterator", name := "nextEntry", desc := "()Ljava/util/TreeMap$Entry;" } : Jvm.MethodName)) ∈ lw_all := lw_g (lw_at lw_m4 210 rfl) rfl
theorem q1053 : (Jvm.Cond.code ({ cls := "java/util/TreeMap$PrivateEntryIterator", name := "nextEntry", desc := "()Ljava/util/TreeMap$Entry;" } : Jvm.MethodName) prog_88_method_3_code (2 : Nat) (Option.some (Jvm.ClassFile.FieldType.object "java/util/TreeMap$Entry"))) ∈ lw_all := lw_g (lw_at lw_m4 211 rfl) rfl
theorem q1054 : (Jvm.Cond.classLink "java/util/TreeMap$PrivateEntryIterator" (29 : Nat) "java/util/NoSuchElementException") ∈ lw_all := lw_g (lw_at lw_m4 212 rfl) rfl
theorem q1055 : (Jvm.Cond.methodLink "java/util/TreeMap$PrivateEntryIterator" (31 : Nat) ({ cls := "java/util/NoSuchElementException", name := "<init>", desc := "()V" } : Jvm.MethodName)) ∈ lw_all := lw_g (lw_at lw_m4 213 rfl) rfl
theorem q1056 : (Jvm.Cond.methodLink "java/util/TreeMap$PrivateEntryIterator" (35 : Nat) ({ cls := "java/util/TreeMap", name := "successor", desc := "(Ljava/util/TreeMap$Entry;)Ljava/util/TreeMap$Entry;" } : Jvm.MethodName)) ∈ lw_all := lw_g (lw_at lw_m4 214 rfl) rfl
theorem q1115 : (Jvm.Cond.instanceMethod ({ cls := "java/util/TreeMap$PrivateEntryIterator", name := "hasNext", desc := "()Z" } : Jvm.MethodName)) ∈ lw_all := lw_g (lw_at lw_m5 33 rfl) rfl
theorem q1116 : (Jvm.Cond.publicMethod ({ cls := "java/util/TreeMap$PrivateEntryIterator", name := "hasNext", desc := "()Z" } : Jvm.MethodName)) ∈ lw_tbl := lw_at lw_m5 34 rfl
theorem q1117 : (Jvm.Cond.code ({ cls := "java/util/TreeMap$PrivateEntryIterator", name := "hasNext", desc := "()Z" } : Jvm.MethodName) prog_88_method_2_code (1 : Nat) (Option.some Jvm.ClassFile.FieldType.boolean)) ∈ lw_all := lw_g (lw_at lw_m5 35 rfl) rfl

/-! java/util/AbstractCollection -/
set_option maxRecDepth 100000
def RJ2 : String := "java/util/AbstractCollection"
abbrev cJ2_init : ByteArray := prog_51_method_1_code
def yJ2_init : MethodName := ⟨RJ2, "<init>", "()V"⟩
theorem dJ2_init_0 : decode cJ2_init 0 = .ok (.aload_n 0, 1) := by decide +kernel
theorem dJ2_init_1 : decode cJ2_init 1 = .ok (.invokespecial 1, 3) := by decide +kernel
theorem dJ2_init_4 : decode cJ2_init 4 = .ok (.return_, 1) := by decide +kernel
abbrev cJ2_toArray : ByteArray := prog_51_method_6_code
def yJ2_toArray : MethodName := ⟨RJ2, "toArray", "()[Ljava/lang/Object;"⟩
def dkwJ2_toArray_3 : List UInt8 := [176]
abbrev dktJ2_toArray_3 : List UInt8 := dkwJ2_toArray_3 ++ []
def dkwJ2_toArray_2 : List UInt8 := [132, 3, 1, 167, 255, 223, 44, 185, 0, 17, 1, 0, 153, 0, 11, 43, 44, 184, 0, 37, 167, 0, 4, 43]
abbrev dktJ2_toArray_2 : List UInt8 := dkwJ2_toArray_2 ++ dktJ2_toArray_3
def dkwJ2_toArray_1 : List UInt8 := [185, 0, 17, 1, 0, 154, 0, 9, 43, 29, 184, 0, 31, 176, 43, 29, 44, 185, 0, 23, 1, 0, 83]
abbrev dktJ2_toArray_1 : List UInt8 := dkwJ2_toArray_1 ++ dktJ2_toArray_2
def dkwJ2_toArray_0 : List UInt8 := [42, 182, 0, 7, 189, 0, 2, 76, 42, 182, 0, 13, 77, 3, 62, 29, 43, 190, 162, 0, 33, 44]
abbrev dktJ2_toArray_0 : List UInt8 := dkwJ2_toArray_0 ++ dktJ2_toArray_1
theorem dksJ2_toArray_0 : cJ2_toArray.data.toList.drop 0 = dktJ2_toArray_0 := by decide +kernel
theorem dksJ2_toArray_1 : cJ2_toArray.data.toList.drop 22 = dktJ2_toArray_1 := dk_seg dksJ2_toArray_0 22 rfl rfl
theorem dksJ2_toArray_2 : cJ2_toArray.data.toList.drop 45 = dktJ2_toArray_2 := dk_seg dksJ2_toArray_1 23 rfl rfl
theorem dksJ2_toArray_3 : cJ2_toArray.data.toList.drop 69 = dktJ2_toArray_3 := dk_seg dksJ2_toArray_2 24 rfl rfl
theorem dJ2_toArray_0 : decode cJ2_toArray 0 = .ok (.aload_n 0, 1) := dk_42 (dk_at dksJ2_toArray_0 0 rfl rfl)
theorem dJ2_toArray_1 : decode cJ2_toArray 1 = .ok (.invokevirtual 7, 3) := dk_182 0 7 (dk_at dksJ2_toArray_0 1 rfl rfl)
theorem dJ2_toArray_4 : decode cJ2_toArray 4 = .ok (.anewarray 2, 3) := dk_189 0 2 (dk_at dksJ2_toArray_0 4 rfl rfl)
theorem dJ2_toArray_7 : decode cJ2_toArray 7 = .ok (.astore_n 1, 1) := dk_76 (dk_at dksJ2_toArray_0 7 rfl rfl)
theorem dJ2_toArray_8 : decode cJ2_toArray 8 = .ok (.aload_n 0, 1) := dk_42 (dk_at dksJ2_toArray_0 8 rfl rfl)
theorem dJ2_toArray_9 : decode cJ2_toArray 9 = .ok (.invokevirtual 13, 3) := dk_182 0 13 (dk_at dksJ2_toArray_0 9 rfl rfl)
theorem dJ2_toArray_12 : decode cJ2_toArray 12 = .ok (.astore_n 2, 1) := dk_77 (dk_at dksJ2_toArray_0 12 rfl rfl)
theorem dJ2_toArray_13 : decode cJ2_toArray 13 = .ok (.iconst 0, 1) := dk_3 (dk_at dksJ2_toArray_0 13 rfl rfl)
theorem dJ2_toArray_14 : decode cJ2_toArray 14 = .ok (.istore_n 3, 1) := dk_62 (dk_at dksJ2_toArray_0 14 rfl rfl)
theorem dJ2_toArray_15 : decode cJ2_toArray 15 = .ok (.iload_n 3, 1) := dk_29 (dk_at dksJ2_toArray_0 15 rfl rfl)
theorem dJ2_toArray_16 : decode cJ2_toArray 16 = .ok (.aload_n 1, 1) := dk_43 (dk_at dksJ2_toArray_0 16 rfl rfl)
theorem dJ2_toArray_17 : decode cJ2_toArray 17 = .ok (.arraylength, 1) := dk_190 (dk_at dksJ2_toArray_0 17 rfl rfl)
theorem dJ2_toArray_18 : decode cJ2_toArray 18 = .ok (.if_icmp .ge 33, 3) := dk_162 0 33 (dk_at dksJ2_toArray_0 18 rfl rfl)
theorem dJ2_toArray_21 : decode cJ2_toArray 21 = .ok (.aload_n 2, 1) := dk_44 (dk_at dksJ2_toArray_0 21 rfl rfl)
theorem dJ2_toArray_22 : decode cJ2_toArray 22 = .ok (.invokeinterface 17 1, 5) := by decide +kernel
theorem dJ2_toArray_27 : decode cJ2_toArray 27 = .ok (.ifCond .ne 9, 3) := dk_154 0 9 (dk_at dksJ2_toArray_1 5 rfl rfl)
theorem dJ2_toArray_30 : decode cJ2_toArray 30 = .ok (.aload_n 1, 1) := dk_43 (dk_at dksJ2_toArray_1 8 rfl rfl)
theorem dJ2_toArray_31 : decode cJ2_toArray 31 = .ok (.iload_n 3, 1) := dk_29 (dk_at dksJ2_toArray_1 9 rfl rfl)
theorem dJ2_toArray_32 : decode cJ2_toArray 32 = .ok (.invokestatic 31, 3) := dk_184 0 31 (dk_at dksJ2_toArray_1 10 rfl rfl)
theorem dJ2_toArray_35 : decode cJ2_toArray 35 = .ok (.areturn, 1) := dk_176 (dk_at dksJ2_toArray_1 13 rfl rfl)
theorem dJ2_toArray_36 : decode cJ2_toArray 36 = .ok (.aload_n 1, 1) := dk_43 (dk_at dksJ2_toArray_1 14 rfl rfl)
theorem dJ2_toArray_37 : decode cJ2_toArray 37 = .ok (.iload_n 3, 1) := dk_29 (dk_at dksJ2_toArray_1 15 rfl rfl)
theorem dJ2_toArray_38 : decode cJ2_toArray 38 = .ok (.aload_n 2, 1) := dk_44 (dk_at dksJ2_toArray_1 16 rfl rfl)
theorem dJ2_toArray_39 : decode cJ2_toArray 39 = .ok (.invokeinterface 23 1, 5) := by decide +kernel
theorem dJ2_toArray_44 : decode cJ2_toArray 44 = .ok (.aastore, 1) := dk_83 (dk_at dksJ2_toArray_1 22 rfl rfl)
theorem dJ2_toArray_45 : decode cJ2_toArray 45 = .ok (.iinc 3 1, 3) := dk_132 3 1 (dk_at dksJ2_toArray_2 0 rfl rfl)
theorem dJ2_toArray_48 : decode cJ2_toArray 48 = .ok (.goto (-33), 3) := dk_167 255 223 (dk_at dksJ2_toArray_2 3 rfl rfl)
theorem dJ2_toArray_51 : decode cJ2_toArray 51 = .ok (.aload_n 2, 1) := dk_44 (dk_at dksJ2_toArray_2 6 rfl rfl)
theorem dJ2_toArray_52 : decode cJ2_toArray 52 = .ok (.invokeinterface 17 1, 5) := by decide +kernel
theorem dJ2_toArray_57 : decode cJ2_toArray 57 = .ok (.ifCond .eq 11, 3) := dk_153 0 11 (dk_at dksJ2_toArray_2 12 rfl rfl)
theorem dJ2_toArray_60 : decode cJ2_toArray 60 = .ok (.aload_n 1, 1) := dk_43 (dk_at dksJ2_toArray_2 15 rfl rfl)
theorem dJ2_toArray_61 : decode cJ2_toArray 61 = .ok (.aload_n 2, 1) := dk_44 (dk_at dksJ2_toArray_2 16 rfl rfl)
theorem dJ2_toArray_62 : decode cJ2_toArray 62 = .ok (.invokestatic 37, 3) := dk_184 0 37 (dk_at dksJ2_toArray_2 17 rfl rfl)
theorem dJ2_toArray_65 : decode cJ2_toArray 65 = .ok (.goto 4, 3) := dk_167 0 4 (dk_at dksJ2_toArray_2 20 rfl rfl)
theorem dJ2_toArray_68 : decode cJ2_toArray 68 = .ok (.aload_n 1, 1) := dk_43 (dk_at dksJ2_toArray_2 23 rfl rfl)
theorem dJ2_toArray_69 : decode cJ2_toArray 69 = .ok (.areturn, 1) := dk_176 (dk_at dksJ2_toArray_3 0 rfl rfl)
abbrev cJ2_isEmpty : ByteArray := prog_51_method_4_code
def yJ2_isEmpty : MethodName := ⟨RJ2, "isEmpty", "()Z"⟩
def dkwJ2_isEmpty_0 : List UInt8 := [42, 182, 0, 7, 154, 0, 7, 4, 167, 0, 4, 3, 172]
abbrev dktJ2_isEmpty_0 : List UInt8 := dkwJ2_isEmpty_0 ++ []
theorem dksJ2_isEmpty_0 : cJ2_isEmpty.data.toList.drop 0 = dktJ2_isEmpty_0 := by decide +kernel
theorem dJ2_isEmpty_0 : decode cJ2_isEmpty 0 = .ok (.aload_n 0, 1) := dk_42 (dk_at dksJ2_isEmpty_0 0 rfl rfl)
theorem dJ2_isEmpty_1 : decode cJ2_isEmpty 1 = .ok (.invokevirtual 7, 3) := dk_182 0 7 (dk_at dksJ2_isEmpty_0 1 rfl rfl)
theorem dJ2_isEmpty_4 : decode cJ2_isEmpty 4 = .ok (.ifCond .ne 7, 3) := dk_154 0 7 (dk_at dksJ2_isEmpty_0 4 rfl rfl)
theorem dJ2_isEmpty_7 : decode cJ2_isEmpty 7 = .ok (.iconst 1, 1) := dk_4 (dk_at dksJ2_isEmpty_0 7 rfl rfl)
theorem dJ2_isEmpty_8 : decode cJ2_isEmpty 8 = .ok (.goto 4, 3) := dk_167 0 4 (dk_at dksJ2_isEmpty_0 8 rfl rfl)
theorem dJ2_isEmpty_11 : decode cJ2_isEmpty 11 = .ok (.iconst 0, 1) := dk_3 (dk_at dksJ2_isEmpty_0 11 rfl rfl)
theorem dJ2_isEmpty_12 : decode cJ2_isEmpty 12 = .ok (.ireturn, 1) := dk_172 (dk_at dksJ2_isEmpty_0 12 rfl rfl)
theorem q127 : (Jvm.Cond.initialized "java/util/AbstractCollection") ∈ lw_all := lw_g (lw_at lw_m1 5 rfl) rfl
theorem q248 : (Jvm.Cond.instanceMethod ({ cls := "java/util/AbstractCollection", name := "<init>", desc := "()V" } : Jvm.MethodName)) ∈ lw_all := lw_g (lw_at lw_m1 126 rfl) rfl
theorem q249 : (Jvm.Cond.code ({ cls := "java/util/AbstractCollection", name := "<init>", desc := "()V" } : Jvm.MethodName) prog_51_method_1_code (1 : Nat) (Option.none : Option Jvm.ClassFile.FieldType)) ∈ lw_all := lw_g (lw_at lw_m1 127 rfl) rfl
theorem q250 : (Jvm.Cond.methodLink "java/util/AbstractCollection" (1 : Nat) ({ cls := "java/lang/Object", name := "<init>", desc := "()V" } : Jvm.MethodName)) ∈ lw_all := lw_g (lw_at lw_m1 128 rfl) rfl
theorem q1434 : (Jvm.Cond.instanceMethod ({ cls := "java/util/AbstractCollection", name := "toArray", desc := "()[Ljava/lang/Object;" } : Jvm.MethodName)) ∈ lw_all := lw_g (lw_at lw_m6 112 rfl) rfl
theorem q1435 : (Jvm.Cond.publicMethod ({ cls := "java/util/AbstractCollection", name := "toArray", desc := "()[Ljava/lang/Object;" } : Jvm.MethodName)) ∈ lw_tbl := lw_at lw_m6 113 rfl
theorem q1436 : (Jvm.Cond.code ({ cls := "java/util/AbstractCollection", name := "toArray", desc := "()[Ljava/lang/Object;" } : Jvm.MethodName) prog_51_method_6_code (4 : Nat) (Option.some (Jvm.ClassFile.FieldType.array (Jvm.ClassFile.FieldType.object "java/lang/Object")))) ∈ lw_all := lw_g (lw_at lw_m6 114 rfl) rfl
theorem q1437 : (Jvm.Cond.methodLink "java/util/AbstractCollection" (7 : Nat) ({ cls := "java/util/AbstractCollection", name := "size", desc := "()I" } : Jvm.MethodName)) ∈ lw_all := lw_g (lw_at lw_m6 115 rfl) rfl
theorem q1438 : (Jvm.Cond.declares ({ cls := "java/util/AbstractCollection", name := "size", desc := "()I" } : Jvm.MethodName)) ∈ lw_tbl := lw_at lw_m6 116 rfl
theorem q1439 : (Jvm.Cond.sameMethod "java/util/AbstractCollection" "java/util/AbstractCollection" "size" "()I") ∈ lw_all := lw_g (lw_at lw_m6 117 rfl) rfl
theorem q1457 : (Jvm.Cond.classLink "java/util/AbstractCollection" (2 : Nat) "java/lang/Object") ∈ lw_all := lw_g (lw_at lw_m6 135 rfl) rfl
theorem q1458 : (Jvm.Cond.methodLink "java/util/AbstractCollection" (13 : Nat) ({ cls := "java/util/AbstractCollection", name := "iterator", desc := "()Ljava/util/Iterator;" } : Jvm.MethodName)) ∈ lw_all := lw_g (lw_at lw_m6 136 rfl) rfl
theorem q1459 : (Jvm.Cond.declares ({ cls := "java/util/AbstractCollection", name := "iterator", desc := "()Ljava/util/Iterator;" } : Jvm.MethodName)) ∈ lw_tbl := lw_at lw_m6 137 rfl
theorem q1460 : (Jvm.Cond.sameMethod "java/util/AbstractCollection" "java/util/AbstractCollection" "iterator" "()Ljava/util/Iterator;") ∈ lw_all := lw_g (lw_at lw_m6 138 rfl) rfl
theorem q1514 : (Jvm.Cond.interfaceEntry "java/util/AbstractCollection" (17 : Nat)) ∈ lw_tbl := lw_at lw_m6 192 rfl
theorem q1515 : (Jvm.Cond.methodLink "java/util/AbstractCollection" (17 : Nat) ({ cls := "java/util/Iterator", name := "hasNext", desc := "()Z" } : Jvm.MethodName)) ∈ lw_all := lw_g (lw_at lw_m6 193 rfl) rfl
theorem q1516 : (Jvm.Cond.methodLink "java/util/AbstractCollection" (31 : Nat) ({ cls := "java/util/Arrays", name := "copyOf", desc := "([Ljava/lang/Object;I)[Ljava/lang/Object;" } : Jvm.MethodName)) ∈ lw_all := lw_g (lw_at lw_m6 194 rfl) rfl
theorem q1517 : (Jvm.Cond.interfaceEntry "java/util/AbstractCollection" (23 : Nat)) ∈ lw_tbl := lw_at lw_m6 195 rfl
theorem q1518 : (Jvm.Cond.methodLink "java/util/AbstractCollection" (23 : Nat) ({ cls := "java/util/Iterator", name := "next", desc := "()Ljava/lang/Object;" } : Jvm.MethodName)) ∈ lw_all := lw_g (lw_at lw_m6 196 rfl) rfl
theorem q1519 : (Jvm.Cond.methodLink "java/util/AbstractCollection" (37 : Nat) ({ cls := "java/util/AbstractCollection", name := "finishToArray", desc := "([Ljava/lang/Object;Ljava/util/Iterator;)[Ljava/lang/Object;" } : Jvm.MethodName)) ∈ lw_all := lw_g (lw_at lw_m6 197 rfl) rfl
theorem q1520 : (Jvm.Cond.static ({ cls := "java/util/AbstractCollection", name := "finishToArray", desc := "([Ljava/lang/Object;Ljava/util/Iterator;)[Ljava/lang/Object;" } : Jvm.MethodName)) ∈ lw_all := lw_g (lw_at lw_m6 198 rfl) rfl
theorem q1521 : (Jvm.Cond.code ({ cls := "java/util/AbstractCollection", name := "finishToArray", desc := "([Ljava/lang/Object;Ljava/util/Iterator;)[Ljava/lang/Object;" } : Jvm.MethodName) prog_51_method_8_code (4 : Nat) (Option.some (Jvm.ClassFile.FieldType.array (Jvm.ClassFile.FieldType.object "java/lang/Object")))) ∈ lw_all := lw_g (lw_at lw_m6 199 rfl) rfl
theorem q1522 : (Jvm.Cond.methodLink "java/util/AbstractCollection" (64 : Nat) ({ cls := "jdk/internal/util/ArraysSupport", name := "newLength", desc := "(III)I" } : Jvm.MethodName)) ∈ lw_all := lw_g (lw_at lw_m6 200 rfl) rfl
theorem q2040 : (Jvm.Cond.declares ({ cls := "java/util/AbstractCollection", name := "isEmpty", desc := "()Z" } : Jvm.MethodName)) ∈ lw_tbl := lw_at lw_m8 238 rfl
theorem q2042 : (Jvm.Cond.instanceMethod ({ cls := "java/util/AbstractCollection", name := "isEmpty", desc := "()Z" } : Jvm.MethodName)) ∈ lw_all := lw_g (lw_at lw_m9 0 rfl) rfl
theorem q2043 : (Jvm.Cond.code ({ cls := "java/util/AbstractCollection", name := "isEmpty", desc := "()Z" } : Jvm.MethodName) prog_51_method_4_code (1 : Nat) (Option.some Jvm.ClassFile.FieldType.boolean)) ∈ lw_all := lw_g (lw_at lw_m9 1 rfl) rfl

/-! java/util/TreeMap$EntryIterator -/
set_option maxRecDepth 100000
def RJ20 : String := "java/util/TreeMap$EntryIterator"
def TJ20 : u_T := fun k => match k with
  | 0 => ("java/util/TreeMap$PrivateEntryIterator", "next", "Ljava/util/TreeMap$Entry;", false)
  | 1 => ("java/util/TreeMap$PrivateEntryIterator", "lastReturned", "Ljava/util/TreeMap$Entry;", false)
  | 2 => ("java/util/TreeMap$PrivateEntryIterator", "expectedModCount", "I", false)
  | _ => ("java/util/TreeMap$PrivateEntryIterator", "this$0", "Ljava/util/TreeMap;", true)
def tyJ20 : Nat → FieldType := fun k => match k with
  | 0 => .object "java/util/TreeMap$Entry"
  | 1 => .object "java/util/TreeMap$Entry"
  | 2 => .int
  | _ => .object "java/util/TreeMap"
abbrev wsJ200 : List Cond := u_ws RJ20 TJ20 4
theorem nmJ20 : ∀ a, a < 4 → ∀ b, b < 4 → a ≠ b → (TJ20 a).2.1 ≠ (TJ20 b).2.1 := by decide +kernel
theorem tyJ20_ok : ∀ k, k < 4 → parseFieldDescriptor (TJ20 k).2.2.1 = some (tyJ20 k) := by decide +kernel
abbrev cJ20_init : ByteArray := prog_83_method_1_code
def yJ20_init : MethodName := ⟨RJ20, "<init>", "(Ljava/util/TreeMap;Ljava/util/TreeMap$Entry;)V"⟩
def dkwJ20_init_0 : List UInt8 := [42, 43, 44, 183, 0, 1, 177]
abbrev dktJ20_init_0 : List UInt8 := dkwJ20_init_0 ++ []
theorem dksJ20_init_0 : cJ20_init.data.toList.drop 0 = dktJ20_init_0 := by decide +kernel
theorem dJ20_init_0 : decode cJ20_init 0 = .ok (.aload_n 0, 1) := dk_42 (dk_at dksJ20_init_0 0 rfl rfl)
theorem dJ20_init_1 : decode cJ20_init 1 = .ok (.aload_n 1, 1) := dk_43 (dk_at dksJ20_init_0 1 rfl rfl)
theorem dJ20_init_2 : decode cJ20_init 2 = .ok (.aload_n 2, 1) := dk_44 (dk_at dksJ20_init_0 2 rfl rfl)
theorem dJ20_init_3 : decode cJ20_init 3 = .ok (.invokespecial 1, 3) := dk_183 0 1 (dk_at dksJ20_init_0 3 rfl rfl)
theorem dJ20_init_6 : decode cJ20_init 6 = .ok (.return_, 1) := dk_177 (dk_at dksJ20_init_0 6 rfl rfl)
abbrev cJ20_next : ByteArray := prog_83_method_3_code
def yJ20_next : MethodName := ⟨RJ20, "next", "()Ljava/lang/Object;"⟩
theorem dJ20_next_0 : decode cJ20_next 0 = .ok (.aload_n 0, 1) := by decide +kernel
theorem dJ20_next_1 : decode cJ20_next 1 = .ok (.invokevirtual 13, 3) := by decide +kernel
theorem dJ20_next_4 : decode cJ20_next 4 = .ok (.areturn, 1) := by decide +kernel
abbrev cJ20_next_2 : ByteArray := prog_83_method_2_code
def yJ20_next_2 : MethodName := ⟨RJ20, "next", "()Ljava/util/Map$Entry;"⟩
theorem dJ20_next_2_0 : decode cJ20_next_2 0 = .ok (.aload_n 0, 1) := by decide +kernel
theorem dJ20_next_2_1 : decode cJ20_next_2 1 = .ok (.invokevirtual 7, 3) := by decide +kernel
theorem dJ20_next_2_4 : decode cJ20_next_2 4 = .ok (.areturn, 1) := by decide +kernel
theorem q147 : (Jvm.Cond.initialized "java/util/TreeMap$EntryIterator") ∈ lw_all := lw_g (lw_at lw_m1 25 rfl) rfl
theorem q374 : (Jvm.Cond.selects "java/util/TreeMap$EntryIterator" ({ cls := "java/lang/Object", name := "getClass", desc := "()Ljava/lang/Class;" } : Jvm.MethodName) ({ cls := "java/lang/Object", name := "getClass", desc := "()Ljava/lang/Class;" } : Jvm.MethodName)) ∈ lw_all := lw_g (lw_at lw_m2 12 rfl) rfl
theorem q835 : (Jvm.Cond.instantiable "java/util/TreeMap$EntryIterator" (4 : Nat)) ∈ lw_all := lw_g (lw_at lw_m3 233 rfl) rfl
theorem q841 : (Jvm.Cond.instanceMethod ({ cls := "java/util/TreeMap$EntryIterator", name := "<init>", desc := "(Ljava/util/TreeMap;Ljava/util/TreeMap$Entry;)V" } : Jvm.MethodName)) ∈ lw_all := lw_g (lw_at lw_m3 239 rfl) rfl
theorem q842 : (Jvm.Cond.code ({ cls := "java/util/TreeMap$EntryIterator", name := "<init>", desc := "(Ljava/util/TreeMap;Ljava/util/TreeMap$Entry;)V" } : Jvm.MethodName) prog_83_method_1_code (3 : Nat) (Option.none : Option Jvm.ClassFile.FieldType)) ∈ lw_all := lw_g (lw_at lw_m4 0 rfl) rfl
theorem q843 : (Jvm.Cond.methodLink "java/util/TreeMap$EntryIterator" (1 : Nat) ({ cls := "java/util/TreeMap$PrivateEntryIterator", name := "<init>", desc := "(Ljava/util/TreeMap;Ljava/util/TreeMap$Entry;)V" } : Jvm.MethodName)) ∈ lw_all := lw_g (lw_at lw_m4 1 rfl) rfl
theorem q851 : (Jvm.Cond.lays "java/util/TreeMap$EntryIterator" "java/util/TreeMap$PrivateEntryIterator" "next" "Ljava/util/TreeMap$Entry;") ∈ lw_all := lw_g (lw_at lw_m4 9 rfl) rfl
theorem q853 : (Jvm.Cond.lays "java/util/TreeMap$EntryIterator" "java/util/TreeMap$PrivateEntryIterator" "lastReturned" "Ljava/util/TreeMap$Entry;") ∈ lw_all := lw_g (lw_at lw_m4 11 rfl) rfl
theorem q855 : (Jvm.Cond.lays "java/util/TreeMap$EntryIterator" "java/util/TreeMap$PrivateEntryIterator" "expectedModCount" "I") ∈ lw_all := lw_g (lw_at lw_m4 13 rfl) rfl
theorem q857 : (Jvm.Cond.laysFinal "java/util/TreeMap$EntryIterator" "java/util/TreeMap$PrivateEntryIterator" "this$0" "Ljava/util/TreeMap;") ∈ lw_all := lw_g (lw_at lw_m4 15 rfl) rfl
theorem q859 : (Jvm.Cond.superclass "java/util/TreeMap$EntryIterator" "java/util/TreeMap$PrivateEntryIterator") ∈ lw_all := lw_g (lw_at lw_m4 17 rfl) rfl
theorem q1038 : (Jvm.Cond.castable "java/util/TreeMap$EntryIterator" "java/util/Iterator") ∈ lw_tbl := lw_at lw_m4 196 rfl
theorem q1039 : (Jvm.Cond.selects "java/util/TreeMap$EntryIterator" ({ cls := "java/util/Iterator", name := "next", desc := "()Ljava/lang/Object;" } : Jvm.MethodName) ({ cls := "java/util/TreeMap$EntryIterator", name := "next", desc := "()Ljava/lang/Object;" } : Jvm.MethodName)) ∈ lw_all := lw_g (lw_at lw_m4 197 rfl) rfl
theorem q1040 : (Jvm.Cond.unhidden "java/util/TreeMap$EntryIterator" "next" "()Ljava/lang/Object;") ∈ lw_tbl := lw_at lw_m4 198 rfl
theorem q1041 : (Jvm.Cond.instanceMethod ({ cls := "java/util/TreeMap$EntryIterator", name := "next", desc := "()Ljava/lang/Object;" } : Jvm.MethodName)) ∈ lw_all := lw_g (lw_at lw_m4 199 rfl) rfl
theorem q1042 : (Jvm.Cond.publicMethod ({ cls := "java/util/TreeMap$EntryIterator", name := "next", desc := "()Ljava/lang/Object;" } : Jvm.MethodName)) ∈ lw_tbl := lw_at lw_m4 200 rfl
theorem q1043 : (Jvm.Cond.code ({ cls := "java/util/TreeMap$EntryIterator", name := "next", desc := "()Ljava/lang/Object;" } : Jvm.MethodName) prog_83_method_3_code (1 : Nat) (Option.some (Jvm.ClassFile.FieldType.object "java/lang/Object"))) ∈ lw_all := lw_g (lw_at lw_m4 201 rfl) rfl
theorem q1044 : (Jvm.Cond.methodLink "java/util/TreeMap$EntryIterator" (13 : Nat) ({ cls := "java/util/TreeMap$EntryIterator", name := "next", desc := "()Ljava/util/Map$Entry;" } : Jvm.MethodName)) ∈ lw_all := lw_g (lw_at lw_m4 202 rfl) rfl
theorem q1045 : (Jvm.Cond.instanceMethod ({ cls := "java/util/TreeMap$EntryIterator", name := "next", desc := "()Ljava/util/Map$Entry;" } : Jvm.MethodName)) ∈ lw_all := lw_g (lw_at lw_m4 203 rfl) rfl
theorem q1046 : (Jvm.Cond.selects "java/util/TreeMap$EntryIterator" ({ cls := "java/util/TreeMap$EntryIterator", name := "next", desc := "()Ljava/util/Map$Entry;" } : Jvm.MethodName) ({ cls := "java/util/TreeMap$EntryIterator", name := "next", desc := "()Ljava/util/Map$Entry;" } : Jvm.MethodName)) ∈ lw_all := lw_g (lw_at lw_m4 204 rfl) rfl
theorem q1047 : (Jvm.Cond.code ({ cls := "java/util/TreeMap$EntryIterator", name := "next", desc := "()Ljava/util/Map$Entry;" } : Jvm.MethodName) prog_83_method_2_code (1 : Nat) (Option.some (Jvm.ClassFile.FieldType.object "java/util/Map$Entry"))) ∈ lw_all := lw_g (lw_at lw_m4 205 rfl) rfl
theorem q1048 : (Jvm.Cond.methodLink "java/util/TreeMap$EntryIterator" (7 : Nat) ({ cls := "java/util/TreeMap$EntryIterator", name := "nextEntry", desc := "()Ljava/util/TreeMap$Entry;" } : Jvm.MethodName)) ∈ lw_all := lw_g (lw_at lw_m4 206 rfl) rfl
theorem q1049 : (Jvm.Cond.sameMethod "java/util/TreeMap$EntryIterator" "java/util/TreeMap$PrivateEntryIterator" "nextEntry" "()Ljava/util/TreeMap$Entry;") ∈ lw_all := lw_g (lw_at lw_m4 207 rfl) rfl
theorem q1051 : (Jvm.Cond.selects "java/util/TreeMap$EntryIterator" ({ cls := "java/util/TreeMap$EntryIterator", name := "nextEntry", desc := "()Ljava/util/TreeMap$Entry;" } : Jvm.MethodName) ({ cls := "java/util/TreeMap$PrivateEntryIterator", name := "nextEntry", desc := "()Ljava/util/TreeMap$Entry;" } : Jvm.MethodName)) ∈ lw_all := lw_g (lw_at lw_m4 209 rfl) rfl
theorem q1113 : (Jvm.Cond.selects "java/util/TreeMap$EntryIterator" ({ cls := "java/util/Iterator", name := "hasNext", desc := "()Z" } : Jvm.MethodName) ({ cls := "java/util/TreeMap$PrivateEntryIterator", name := "hasNext", desc := "()Z" } : Jvm.MethodName)) ∈ lw_all := lw_g (lw_at lw_m5 31 rfl) rfl
theorem q1114 : (Jvm.Cond.unhidden "java/util/TreeMap$EntryIterator" "hasNext" "()Z") ∈ lw_tbl := lw_at lw_m5 32 rfl
theorem q3470 : (Jvm.Cond.castable "java/util/TreeMap$EntryIterator" "java/lang/Object") ∈ lw_tbl := lw_at lw_m14 228 rfl
theorem in_J20 : ∀ w ∈ wsJ200, w ∈ lw_all := lw_in wsJ200 [851, 853, 855, 857] (by decide +kernel) (by decide +kernel)

/-! java/util/TreeMap$KeyIterator -/
set_option maxRecDepth 100000
def RJ21 : String := "java/util/TreeMap$KeyIterator"
def TJ21 : u_T := fun k => match k with
  | 0 => ("java/util/TreeMap$PrivateEntryIterator", "next", "Ljava/util/TreeMap$Entry;", false)
  | 1 => ("java/util/TreeMap$PrivateEntryIterator", "lastReturned", "Ljava/util/TreeMap$Entry;", false)
  | 2 => ("java/util/TreeMap$PrivateEntryIterator", "expectedModCount", "I", false)
  | _ => ("java/util/TreeMap$PrivateEntryIterator", "this$0", "Ljava/util/TreeMap;", true)
def tyJ21 : Nat → FieldType := fun k => match k with
  | 0 => .object "java/util/TreeMap$Entry"
  | 1 => .object "java/util/TreeMap$Entry"
  | 2 => .int
  | _ => .object "java/util/TreeMap"
abbrev wsJ210 : List Cond := u_ws RJ21 TJ21 4
theorem nmJ21 : ∀ a, a < 4 → ∀ b, b < 4 → a ≠ b → (TJ21 a).2.1 ≠ (TJ21 b).2.1 := by decide +kernel
theorem tyJ21_ok : ∀ k, k < 4 → parseFieldDescriptor (TJ21 k).2.2.1 = some (tyJ21 k) := by decide +kernel
abbrev cJ21_init : ByteArray := prog_85_method_1_code
def yJ21_init : MethodName := ⟨RJ21, "<init>", "(Ljava/util/TreeMap;Ljava/util/TreeMap$Entry;)V"⟩
def dkwJ21_init_0 : List UInt8 := [42, 43, 44, 183, 0, 1, 177]
abbrev dktJ21_init_0 : List UInt8 := dkwJ21_init_0 ++ []
theorem dksJ21_init_0 : cJ21_init.data.toList.drop 0 = dktJ21_init_0 := by decide +kernel
theorem dJ21_init_0 : decode cJ21_init 0 = .ok (.aload_n 0, 1) := dk_42 (dk_at dksJ21_init_0 0 rfl rfl)
theorem dJ21_init_1 : decode cJ21_init 1 = .ok (.aload_n 1, 1) := dk_43 (dk_at dksJ21_init_0 1 rfl rfl)
theorem dJ21_init_2 : decode cJ21_init 2 = .ok (.aload_n 2, 1) := dk_44 (dk_at dksJ21_init_0 2 rfl rfl)
theorem dJ21_init_3 : decode cJ21_init 3 = .ok (.invokespecial 1, 3) := dk_183 0 1 (dk_at dksJ21_init_0 3 rfl rfl)
theorem dJ21_init_6 : decode cJ21_init 6 = .ok (.return_, 1) := dk_177 (dk_at dksJ21_init_0 6 rfl rfl)
abbrev cJ21_next : ByteArray := prog_85_method_2_code
def yJ21_next : MethodName := ⟨RJ21, "next", "()Ljava/lang/Object;"⟩
def dkwJ21_next_0 : List UInt8 := [42, 182, 0, 7, 180, 0, 13, 176]
abbrev dktJ21_next_0 : List UInt8 := dkwJ21_next_0 ++ []
theorem dksJ21_next_0 : cJ21_next.data.toList.drop 0 = dktJ21_next_0 := by decide +kernel
theorem dJ21_next_0 : decode cJ21_next 0 = .ok (.aload_n 0, 1) := dk_42 (dk_at dksJ21_next_0 0 rfl rfl)
theorem dJ21_next_1 : decode cJ21_next 1 = .ok (.invokevirtual 7, 3) := dk_182 0 7 (dk_at dksJ21_next_0 1 rfl rfl)
theorem dJ21_next_4 : decode cJ21_next 4 = .ok (.getfield 13, 3) := dk_180 0 13 (dk_at dksJ21_next_0 4 rfl rfl)
theorem dJ21_next_7 : decode cJ21_next 7 = .ok (.areturn, 1) := dk_176 (dk_at dksJ21_next_0 7 rfl rfl)
theorem q148 : (Jvm.Cond.initialized "java/util/TreeMap$KeyIterator") ∈ lw_all := lw_g (lw_at lw_m1 26 rfl) rfl
theorem q376 : (Jvm.Cond.selects "java/util/TreeMap$KeyIterator" ({ cls := "java/lang/Object", name := "getClass", desc := "()Ljava/lang/Class;" } : Jvm.MethodName) ({ cls := "java/lang/Object", name := "getClass", desc := "()Ljava/lang/Class;" } : Jvm.MethodName)) ∈ lw_all := lw_g (lw_at lw_m2 14 rfl) rfl
theorem q641 : (Jvm.Cond.fieldLink "java/util/TreeMap$KeyIterator" (13 : Nat) "java/util/TreeMap$Entry" "key" "Ljava/lang/Object;") ∈ lw_all := lw_g (lw_at lw_m3 39 rfl) rfl
theorem q872 : (Jvm.Cond.instantiable "java/util/TreeMap$KeyIterator" (4 : Nat)) ∈ lw_all := lw_g (lw_at lw_m4 30 rfl) rfl
theorem q875 : (Jvm.Cond.instanceMethod ({ cls := "java/util/TreeMap$KeyIterator", name := "<init>", desc := "(Ljava/util/TreeMap;Ljava/util/TreeMap$Entry;)V" } : Jvm.MethodName)) ∈ lw_all := lw_g (lw_at lw_m4 33 rfl) rfl
theorem q876 : (Jvm.Cond.code ({ cls := "java/util/TreeMap$KeyIterator", name := "<init>", desc := "(Ljava/util/TreeMap;Ljava/util/TreeMap$Entry;)V" } : Jvm.MethodName) prog_85_method_1_code (3 : Nat) (Option.none : Option Jvm.ClassFile.FieldType)) ∈ lw_all := lw_g (lw_at lw_m4 34 rfl) rfl
theorem q877 : (Jvm.Cond.methodLink "java/util/TreeMap$KeyIterator" (1 : Nat) ({ cls := "java/util/TreeMap$PrivateEntryIterator", name := "<init>", desc := "(Ljava/util/TreeMap;Ljava/util/TreeMap$Entry;)V" } : Jvm.MethodName)) ∈ lw_all := lw_g (lw_at lw_m4 35 rfl) rfl
theorem q878 : (Jvm.Cond.lays "java/util/TreeMap$KeyIterator" "java/util/TreeMap$PrivateEntryIterator" "next" "Ljava/util/TreeMap$Entry;") ∈ lw_all := lw_g (lw_at lw_m4 36 rfl) rfl
theorem q879 : (Jvm.Cond.lays "java/util/TreeMap$KeyIterator" "java/util/TreeMap$PrivateEntryIterator" "lastReturned" "Ljava/util/TreeMap$Entry;") ∈ lw_all := lw_g (lw_at lw_m4 37 rfl) rfl
theorem q880 : (Jvm.Cond.lays "java/util/TreeMap$KeyIterator" "java/util/TreeMap$PrivateEntryIterator" "expectedModCount" "I") ∈ lw_all := lw_g (lw_at lw_m4 38 rfl) rfl
theorem q881 : (Jvm.Cond.laysFinal "java/util/TreeMap$KeyIterator" "java/util/TreeMap$PrivateEntryIterator" "this$0" "Ljava/util/TreeMap;") ∈ lw_all := lw_g (lw_at lw_m4 39 rfl) rfl
theorem q882 : (Jvm.Cond.superclass "java/util/TreeMap$KeyIterator" "java/util/TreeMap$PrivateEntryIterator") ∈ lw_all := lw_g (lw_at lw_m4 40 rfl) rfl
theorem q1059 : (Jvm.Cond.castable "java/util/TreeMap$KeyIterator" "java/util/Iterator") ∈ lw_tbl := lw_at lw_m4 217 rfl
theorem q1060 : (Jvm.Cond.selects "java/util/TreeMap$KeyIterator" ({ cls := "java/util/Iterator", name := "next", desc := "()Ljava/lang/Object;" } : Jvm.MethodName) ({ cls := "java/util/TreeMap$KeyIterator", name := "next", desc := "()Ljava/lang/Object;" } : Jvm.MethodName)) ∈ lw_all := lw_g (lw_at lw_m4 218 rfl) rfl
theorem q1061 : (Jvm.Cond.unhidden "java/util/TreeMap$KeyIterator" "next" "()Ljava/lang/Object;") ∈ lw_tbl := lw_at lw_m4 219 rfl
theorem q1062 : (Jvm.Cond.instanceMethod ({ cls := "java/util/TreeMap$KeyIterator", name := "next", desc := "()Ljava/lang/Object;" } : Jvm.MethodName)) ∈ lw_all := lw_g (lw_at lw_m4 220 rfl) rfl
theorem q1063 : (Jvm.Cond.publicMethod ({ cls := "java/util/TreeMap$KeyIterator", name := "next", desc := "()Ljava/lang/Object;" } : Jvm.MethodName)) ∈ lw_tbl := lw_at lw_m4 221 rfl
theorem q1064 : (Jvm.Cond.code ({ cls := "java/util/TreeMap$KeyIterator", name := "next", desc := "()Ljava/lang/Object;" } : Jvm.MethodName) prog_85_method_2_code (1 : Nat) (Option.some (Jvm.ClassFile.FieldType.object "java/lang/Object"))) ∈ lw_all := lw_g (lw_at lw_m4 222 rfl) rfl
theorem q1065 : (Jvm.Cond.methodLink "java/util/TreeMap$KeyIterator" (7 : Nat) ({ cls := "java/util/TreeMap$KeyIterator", name := "nextEntry", desc := "()Ljava/util/TreeMap$Entry;" } : Jvm.MethodName)) ∈ lw_all := lw_g (lw_at lw_m4 223 rfl) rfl
theorem q1066 : (Jvm.Cond.sameMethod "java/util/TreeMap$KeyIterator" "java/util/TreeMap$PrivateEntryIterator" "nextEntry" "()Ljava/util/TreeMap$Entry;") ∈ lw_all := lw_g (lw_at lw_m4 224 rfl) rfl
theorem q1067 : (Jvm.Cond.selects "java/util/TreeMap$KeyIterator" ({ cls := "java/util/TreeMap$KeyIterator", name := "nextEntry", desc := "()Ljava/util/TreeMap$Entry;" } : Jvm.MethodName) ({ cls := "java/util/TreeMap$PrivateEntryIterator", name := "nextEntry", desc := "()Ljava/util/TreeMap$Entry;" } : Jvm.MethodName)) ∈ lw_all := lw_g (lw_at lw_m4 225 rfl) rfl
theorem q1118 : (Jvm.Cond.selects "java/util/TreeMap$KeyIterator" ({ cls := "java/util/Iterator", name := "hasNext", desc := "()Z" } : Jvm.MethodName) ({ cls := "java/util/TreeMap$PrivateEntryIterator", name := "hasNext", desc := "()Z" } : Jvm.MethodName)) ∈ lw_all := lw_g (lw_at lw_m5 36 rfl) rfl
theorem q1119 : (Jvm.Cond.unhidden "java/util/TreeMap$KeyIterator" "hasNext" "()Z") ∈ lw_tbl := lw_at lw_m5 37 rfl
theorem q3492 : (Jvm.Cond.castable "java/util/TreeMap$KeyIterator" "java/lang/Object") ∈ lw_tbl := lw_at lw_m15 10 rfl
theorem in_J21 : ∀ w ∈ wsJ210, w ∈ lw_all := lw_in wsJ210 [878, 879, 880, 881] (by decide +kernel) (by decide +kernel)

/-! java/util/TreeMap$KeySet -/
set_option maxRecDepth 100000
def RJ22 : String := "java/util/TreeMap$KeySet"
def TJ22 : u_T := fun k => match k with
  | _ => ("java/util/TreeMap$KeySet", "m", "Ljava/util/NavigableMap;", true)
def tyJ22 : Nat → FieldType := fun k => match k with
  | _ => .object "java/util/NavigableMap"
abbrev wsJ220 : List Cond := u_ws RJ22 TJ22 1
theorem nmJ22 : ∀ a, a < 1 → ∀ b, b < 1 → a ≠ b → (TJ22 a).2.1 ≠ (TJ22 b).2.1 := by decide +kernel
theorem tyJ22_ok : ∀ k, k < 1 → parseFieldDescriptor (TJ22 k).2.2.1 = some (tyJ22 k) := by decide +kernel
abbrev cJ22_iterator : ByteArray := prog_86_method_2_code
def yJ22_iterator : MethodName := ⟨RJ22, "iterator", "()Ljava/util/Iterator;"⟩
def dkwJ22_iterator_1 : List UInt8 := [180, 0, 7, 192, 0, 19, 182, 0, 21, 176]
abbrev dktJ22_iterator_1 : List UInt8 := dkwJ22_iterator_1 ++ []
def dkwJ22_iterator_0 : List UInt8 := [42, 180, 0, 7, 193, 0, 13, 153, 0, 14, 42, 180, 0, 7, 192, 0, 13, 182, 0, 15, 176, 42]
abbrev dktJ22_iterator_0 : List UInt8 := dkwJ22_iterator_0 ++ dktJ22_iterator_1
theorem dksJ22_iterator_0 : cJ22_iterator.data.toList.drop 0 = dktJ22_iterator_0 := by decide +kernel
theorem dksJ22_iterator_1 : cJ22_iterator.data.toList.drop 22 = dktJ22_iterator_1 := dk_seg dksJ22_iterator_0 22 rfl rfl
theorem dJ22_iterator_0 : decode cJ22_iterator 0 = .ok (.aload_n 0, 1) := dk_42 (dk_at dksJ22_iterator_0 0 rfl rfl)
theorem dJ22_iterator_1 : decode cJ22_iterator 1 = .ok (.getfield 7, 3) := dk_180 0 7 (dk_at dksJ22_iterator_0 1 rfl rfl)
theorem dJ22_iterator_4 : decode cJ22_iterator 4 = .ok (.instanceof 13, 3) := dk_193 0 13 (dk_at dksJ22_iterator_0 4 rfl rfl)
theorem dJ22_iterator_7 : decode cJ22_iterator 7 = .ok (.ifCond .eq 14, 3) := dk_153 0 14 (dk_at dksJ22_iterator_0 7 rfl rfl)
theorem dJ22_iterator_10 : decode cJ22_iterator 10 = .ok (.aload_n 0, 1) := dk_42 (dk_at dksJ22_iterator_0 10 rfl rfl)
theorem dJ22_iterator_11 : decode cJ22_iterator 11 = .ok (.getfield 7, 3) := dk_180 0 7 (dk_at dksJ22_iterator_0 11 rfl rfl)
theorem dJ22_iterator_14 : decode cJ22_iterator 14 = .ok (.checkcast 13, 3) := dk_192 0 13 (dk_at dksJ22_iterator_0 14 rfl rfl)
theorem dJ22_iterator_17 : decode cJ22_iterator 17 = .ok (.invokevirtual 15, 3) := dk_182 0 15 (dk_at dksJ22_iterator_0 17 rfl rfl)
theorem dJ22_iterator_20 : decode cJ22_iterator 20 = .ok (.areturn, 1) := dk_176 (dk_at dksJ22_iterator_0 20 rfl rfl)
theorem dJ22_iterator_21 : decode cJ22_iterator 21 = .ok (.aload_n 0, 1) := dk_42 (dk_at dksJ22_iterator_0 21 rfl rfl)
theorem dJ22_iterator_22 : decode cJ22_iterator 22 = .ok (.getfield 7, 3) := dk_180 0 7 (dk_at dksJ22_iterator_1 0 rfl rfl)
theorem dJ22_iterator_25 : decode cJ22_iterator 25 = .ok (.checkcast 19, 3) := dk_192 0 19 (dk_at dksJ22_iterator_1 3 rfl rfl)
theorem dJ22_iterator_28 : decode cJ22_iterator 28 = .ok (.invokevirtual 21, 3) := dk_182 0 21 (dk_at dksJ22_iterator_1 6 rfl rfl)
theorem dJ22_iterator_31 : decode cJ22_iterator 31 = .ok (.areturn, 1) := dk_176 (dk_at dksJ22_iterator_1 9 rfl rfl)
abbrev cJ22_init : ByteArray := prog_86_method_1_code
def yJ22_init : MethodName := ⟨RJ22, "<init>", "(Ljava/util/NavigableMap;)V"⟩
def dkwJ22_init_0 : List UInt8 := [42, 183, 0, 1, 42, 43, 181, 0, 7, 177]
abbrev dktJ22_init_0 : List UInt8 := dkwJ22_init_0 ++ []
theorem dksJ22_init_0 : cJ22_init.data.toList.drop 0 = dktJ22_init_0 := by decide +kernel
theorem dJ22_init_0 : decode cJ22_init 0 = .ok (.aload_n 0, 1) := dk_42 (dk_at dksJ22_init_0 0 rfl rfl)
theorem dJ22_init_1 : decode cJ22_init 1 = .ok (.invokespecial 1, 3) := dk_183 0 1 (dk_at dksJ22_init_0 1 rfl rfl)
theorem dJ22_init_4 : decode cJ22_init 4 = .ok (.aload_n 0, 1) := dk_42 (dk_at dksJ22_init_0 4 rfl rfl)
theorem dJ22_init_5 : decode cJ22_init 5 = .ok (.aload_n 1, 1) := dk_43 (dk_at dksJ22_init_0 5 rfl rfl)
theorem dJ22_init_6 : decode cJ22_init 6 = .ok (.putfield 7, 3) := dk_181 0 7 (dk_at dksJ22_init_0 6 rfl rfl)
theorem dJ22_init_9 : decode cJ22_init 9 = .ok (.return_, 1) := dk_177 (dk_at dksJ22_init_0 9 rfl rfl)
theorem q149 : (Jvm.Cond.initialized "java/util/TreeMap$KeySet") ∈ lw_all := lw_g (lw_at lw_m1 27 rfl) rfl
theorem q377 : (Jvm.Cond.selects "java/util/TreeMap$KeySet" ({ cls := "java/lang/Object", name := "getClass", desc := "()Ljava/lang/Class;" } : Jvm.MethodName) ({ cls := "java/lang/Object", name := "getClass", desc := "()Ljava/lang/Class;" } : Jvm.MethodName)) ∈ lw_all := lw_g (lw_at lw_m2 15 rfl) rfl
theorem q860 : (Jvm.Cond.castable "java/util/TreeMap$KeySet" "java/util/Set") ∈ lw_tbl := lw_at lw_m4 18 rfl
theorem q861 : (Jvm.Cond.selects "java/util/TreeMap$KeySet" ({ cls := "java/util/Set", name := "iterator", desc := "()Ljava/util/Iterator;" } : Jvm.MethodName) ({ cls := "java/util/TreeMap$KeySet", name := "iterator", desc := "()Ljava/util/Iterator;" } : Jvm.MethodName)) ∈ lw_all := lw_g (lw_at lw_m4 19 rfl) rfl
theorem q862 : (Jvm.Cond.unhidden "java/util/TreeMap$KeySet" "iterator" "()Ljava/util/Iterator;") ∈ lw_tbl := lw_at lw_m4 20 rfl
theorem q863 : (Jvm.Cond.instanceMethod ({ cls := "java/util/TreeMap$KeySet", name := "iterator", desc := "()Ljava/util/Iterator;" } : Jvm.MethodName)) ∈ lw_all := lw_g (lw_at lw_m4 21 rfl) rfl
theorem q864 : (Jvm.Cond.publicMethod ({ cls := "java/util/TreeMap$KeySet", name := "iterator", desc := "()Ljava/util/Iterator;" } : Jvm.MethodName)) ∈ lw_tbl := lw_at lw_m4 22 rfl
theorem q865 : (Jvm.Cond.code ({ cls := "java/util/TreeMap$KeySet", name := "iterator", desc := "()Ljava/util/Iterator;" } : Jvm.MethodName) prog_86_method_2_code (1 : Nat) (Option.some (Jvm.ClassFile.FieldType.object "java/util/Iterator"))) ∈ lw_all := lw_g (lw_at lw_m4 23 rfl) rfl
theorem q866 : (Jvm.Cond.classLink "java/util/TreeMap$KeySet" (13 : Nat) "java/util/TreeMap") ∈ lw_all := lw_g (lw_at lw_m4 24 rfl) rfl
theorem q867 : (Jvm.Cond.methodLink "java/util/TreeMap$KeySet" (15 : Nat) ({ cls := "java/util/TreeMap", name := "keyIterator", desc := "()Ljava/util/Iterator;" } : Jvm.MethodName)) ∈ lw_all := lw_g (lw_at lw_m4 25 rfl) rfl
theorem q883 : (Jvm.Cond.classLink "java/util/TreeMap$KeySet" (19 : Nat) "java/util/TreeMap$NavigableSubMap") ∈ lw_all := lw_g (lw_at lw_m4 41 rfl) rfl
theorem q884 : (Jvm.Cond.methodLink "java/util/TreeMap$KeySet" (21 : Nat) ({ cls := "java/util/TreeMap$NavigableSubMap", name := "keyIterator", desc := "()Ljava/util/Iterator;" } : Jvm.MethodName)) ∈ lw_all := lw_g (lw_at lw_m4 42 rfl) rfl
theorem q904 : (Jvm.Cond.instantiable "java/util/TreeMap$KeySet" (1 : Nat)) ∈ lw_all := lw_g (lw_at lw_m4 62 rfl) rfl
theorem q906 : (Jvm.Cond.instanceMethod ({ cls := "java/util/TreeMap$KeySet", name := "<init>", desc := "(Ljava/util/NavigableMap;)V" } : Jvm.MethodName)) ∈ lw_all := lw_g (lw_at lw_m4 64 rfl) rfl
theorem q907 : (Jvm.Cond.code ({ cls := "java/util/TreeMap$KeySet", name := "<init>", desc := "(Ljava/util/NavigableMap;)V" } : Jvm.MethodName) prog_86_method_1_code (2 : Nat) (Option.none : Option Jvm.ClassFile.FieldType)) ∈ lw_all := lw_g (lw_at lw_m4 65 rfl) rfl
theorem q908 : (Jvm.Cond.methodLink "java/util/TreeMap$KeySet" (1 : Nat) ({ cls := "java/util/AbstractSet", name := "<init>", desc := "()V" } : Jvm.MethodName)) ∈ lw_all := lw_g (lw_at lw_m4 66 rfl) rfl
theorem q909 : (Jvm.Cond.fieldLink "java/util/TreeMap$KeySet" (7 : Nat) "java/util/TreeMap$KeySet" "m" "Ljava/util/NavigableMap;") ∈ lw_all := lw_g (lw_at lw_m4 67 rfl) rfl
theorem q910 : (Jvm.Cond.laysFinal "java/util/TreeMap$KeySet" "java/util/TreeMap$KeySet" "m" "Ljava/util/NavigableMap;") ∈ lw_all := lw_g (lw_at lw_m4 68 rfl) rfl
theorem q911 : (Jvm.Cond.soleField "java/util/TreeMap$KeySet" "m") ∈ lw_all := lw_g (lw_at lw_m4 69 rfl) rfl
theorem q912 : (Jvm.Cond.superclass "java/util/TreeMap$KeySet" "java/util/AbstractSet") ∈ lw_all := lw_g (lw_at lw_m4 70 rfl) rfl
theorem q917 : (Jvm.Cond.castable "java/util/TreeMap$KeySet" "java/util/NavigableSet") ∈ lw_tbl := lw_at lw_m4 75 rfl
theorem q918 : (Jvm.Cond.selects "java/util/TreeMap$KeySet" ({ cls := "java/util/NavigableSet", name := "iterator", desc := "()Ljava/util/Iterator;" } : Jvm.MethodName) ({ cls := "java/util/TreeMap$KeySet", name := "iterator", desc := "()Ljava/util/Iterator;" } : Jvm.MethodName)) ∈ lw_all := lw_g (lw_at lw_m4 76 rfl) rfl
theorem q1448 : (Jvm.Cond.selects "java/util/TreeMap$KeySet" ({ cls := "java/util/AbstractCollection", name := "size", desc := "()I" } : Jvm.MethodName) ({ cls := "java/util/TreeMap$KeySet", name := "size", desc := "()I" } : Jvm.MethodName)) ∈ lw_all := lw_g (lw_at lw_m6 126 rfl) rfl
theorem q1449 : (Jvm.Cond.instanceMethod ({ cls := "java/util/TreeMap$KeySet", name := "size", desc := "()I" } : Jvm.MethodName)) ∈ lw_all := lw_g (lw_at lw_m6 127 rfl) rfl
theorem q1450 : (Jvm.Cond.code ({ cls := "java/util/TreeMap$KeySet", name := "size", desc := "()I" } : Jvm.MethodName) prog_86_method_4_code (1 : Nat) (Option.some Jvm.ClassFile.FieldType.int)) ∈ lw_all := lw_g (lw_at lw_m6 128 rfl) rfl
theorem q1451 : (Jvm.Cond.interfaceEntry "java/util/TreeMap$KeySet" (26 : Nat)) ∈ lw_tbl := lw_at lw_m6 129 rfl
theorem q1512 : (Jvm.Cond.selects "java/util/TreeMap$KeySet" ({ cls := "java/util/AbstractCollection", name := "iterator", desc := "()Ljava/util/Iterator;" } : Jvm.MethodName) ({ cls := "java/util/TreeMap$KeySet", name := "iterator", desc := "()Ljava/util/Iterator;" } : Jvm.MethodName)) ∈ lw_all := lw_g (lw_at lw_m6 190 rfl) rfl
theorem q1523 : (Jvm.Cond.castable "java/util/TreeMap$KeySet" "java/util/Collection") ∈ lw_tbl := lw_at lw_m6 201 rfl
theorem q1524 : (Jvm.Cond.selects "java/util/TreeMap$KeySet" ({ cls := "java/util/Collection", name := "toArray", desc := "()[Ljava/lang/Object;" } : Jvm.MethodName) ({ cls := "java/util/AbstractCollection", name := "toArray", desc := "()[Ljava/lang/Object;" } : Jvm.MethodName)) ∈ lw_all := lw_g (lw_at lw_m6 202 rfl) rfl
theorem q1525 : (Jvm.Cond.unhidden "java/util/TreeMap$KeySet" "toArray" "()[Ljava/lang/Object;") ∈ lw_tbl := lw_at lw_m6 203 rfl
theorem q1537 : (Jvm.Cond.unhidden "java/util/TreeMap$KeySet" "getClass" "()Ljava/lang/Class;") ∈ lw_tbl := lw_at lw_m6 215 rfl
theorem q3491 : (Jvm.Cond.castable "java/util/TreeMap$KeySet" "java/lang/Object") ∈ lw_tbl := lw_at lw_m15 9 rfl
theorem in_J22 : ∀ w ∈ wsJ220, w ∈ lw_all := lw_in wsJ220 [910] (by decide +kernel) (by decide +kernel)

/-! java/lang/Throwable -/
set_option maxRecDepth 100000
def RJ23 : String := "java/lang/Throwable"
def TJ23 : u_T := fun k => match k with
  | 0 => ("java/lang/Throwable", "cause", "Ljava/lang/Throwable;", false)
  | 1 => ("java/lang/Throwable", "stackTrace", "[Ljava/lang/StackTraceElement;", false)
  | 2 => ("java/lang/Throwable", "suppressedExceptions", "Ljava/util/List;", false)
  | 3 => ("java/lang/Throwable", "detailMessage", "Ljava/lang/String;", false)
  | _ => ("java/lang/Throwable", "backtrace", "Ljava/lang/Object;", false)
def tyJ23 : Nat → FieldType := fun k => match k with
  | 0 => .object "java/lang/Throwable"
  | 1 => .array (.object "java/lang/StackTraceElement")
  | 2 => .object "java/util/List"
  | 3 => .object "java/lang/String"
  | _ => .object "java/lang/Object"
abbrev wsJ230 : List Cond := u_ws RJ23 TJ23 5
theorem nmJ23 : ∀ a, a < 5 → ∀ b, b < 5 → a ≠ b → (TJ23 a).2.1 ≠ (TJ23 b).2.1 := by decide +kernel
theorem tyJ23_ok : ∀ k, k < 5 → parseFieldDescriptor (TJ23 k).2.2.1 = some (tyJ23 k) := by decide +kernel
abbrev cJ23_init_3 : ByteArray := prog_48_method_5_code
def yJ23_init_3 : MethodName := ⟨RJ23, "<init>", "(Ljava/lang/String;Ljava/lang/Throwable;ZZ)V"⟩
def dkwJ23_init_3_2 : List UInt8 := [44, 181, 0, 7, 29, 154, 0, 8, 42, 1, 181, 0, 24, 177]
abbrev dktJ23_init_3_2 : List UInt8 := dkwJ23_init_3_2 ++ []
def dkwJ23_init_3_1 : List UInt8 := [21, 4, 153, 0, 11, 42, 182, 0, 27, 87, 167, 0, 8, 42, 1, 181, 0, 17, 42, 43, 181, 0, 31, 42]
abbrev dktJ23_init_3_1 : List UInt8 := dkwJ23_init_3_1 ++ dktJ23_init_3_2
def dkwJ23_init_3_0 : List UInt8 := [42, 183, 0, 1, 42, 42, 181, 0, 7, 42, 178, 0, 13, 181, 0, 17, 42, 178, 0, 20, 181, 0, 24]
abbrev dktJ23_init_3_0 : List UInt8 := dkwJ23_init_3_0 ++ dktJ23_init_3_1
theorem dksJ23_init_3_0 : cJ23_init_3.data.toList.drop 0 = dktJ23_init_3_0 := by decide +kernel
theorem dksJ23_init_3_1 : cJ23_init_3.data.toList.drop 23 = dktJ23_init_3_1 := dk_seg dksJ23_init_3_0 23 rfl rfl
theorem dksJ23_init_3_2 : cJ23_init_3.data.toList.drop 47 = dktJ23_init_3_2 := dk_seg dksJ23_init_3_1 24 rfl rfl
theorem dJ23_init_3_0 : decode cJ23_init_3 0 = .ok (.aload_n 0, 1) := dk_42 (dk_at dksJ23_init_3_0 0 rfl rfl)
theorem dJ23_init_3_1 : decode cJ23_init_3 1 = .ok (.invokespecial 1, 3) := dk_183 0 1 (dk_at dksJ23_init_3_0 1 rfl rfl)
theorem dJ23_init_3_4 : decode cJ23_init_3 4 = .ok (.aload_n 0, 1) := dk_42 (dk_at dksJ23_init_3_0 4 rfl rfl)
theorem dJ23_init_3_5 : decode cJ23_init_3 5 = .ok (.aload_n 0, 1) := dk_42 (dk_at dksJ23_init_3_0 5 rfl rfl)
theorem dJ23_init_3_6 : decode cJ23_init_3 6 = .ok (.putfield 7, 3) := dk_181 0 7 (dk_at dksJ23_init_3_0 6 rfl rfl)
theorem dJ23_init_3_9 : decode cJ23_init_3 9 = .ok (.aload_n 0, 1) := dk_42 (dk_at dksJ23_init_3_0 9 rfl rfl)
theorem dJ23_init_3_10 : decode cJ23_init_3 10 = .ok (.getstatic 13, 3) := dk_178 0 13 (dk_at dksJ23_init_3_0 10 rfl rfl)
theorem dJ23_init_3_13 : decode cJ23_init_3 13 = .ok (.putfield 17, 3) := dk_181 0 17 (dk_at dksJ23_init_3_0 13 rfl rfl)
theorem dJ23_init_3_16 : decode cJ23_init_3 16 = .ok (.aload_n 0, 1) := dk_42 (dk_at dksJ23_init_3_0 16 rfl rfl)
theorem dJ23_init_3_17 : decode cJ23_init_3 17 = .ok (.getstatic 20, 3) := dk_178 0 20 (dk_at dksJ23_init_3_0 17 rfl rfl)
theorem dJ23_init_3_20 : decode cJ23_init_3 20 = .ok (.putfield 24, 3) := dk_181 0 24 (dk_at dksJ23_init_3_0 20 rfl rfl)
theorem dJ23_init_3_23 : decode cJ23_init_3 23 = .ok (.iload 4, 2) := dk_21 4 (dk_at dksJ23_init_3_1 0 rfl rfl)
theorem dJ23_init_3_25 : decode cJ23_init_3 25 = .ok (.ifCond .eq 11, 3) := dk_153 0 11 (dk_at dksJ23_init_3_1 2 rfl rfl)
theorem dJ23_init_3_28 : decode cJ23_init_3 28 = .ok (.aload_n 0, 1) := dk_42 (dk_at dksJ23_init_3_1 5 rfl rfl)
theorem dJ23_init_3_29 : decode cJ23_init_3 29 = .ok (.invokevirtual 27, 3) := dk_182 0 27 (dk_at dksJ23_init_3_1 6 rfl rfl)
theorem dJ23_init_3_32 : decode cJ23_init_3 32 = .ok (.pop, 1) := dk_87 (dk_at dksJ23_init_3_1 9 rfl rfl)
theorem dJ23_init_3_33 : decode cJ23_init_3 33 = .ok (.goto 8, 3) := dk_167 0 8 (dk_at dksJ23_init_3_1 10 rfl rfl)
theorem dJ23_init_3_36 : decode cJ23_init_3 36 = .ok (.aload_n 0, 1) := dk_42 (dk_at dksJ23_init_3_1 13 rfl rfl)
theorem dJ23_init_3_37 : decode cJ23_init_3 37 = .ok (.aconst_null, 1) := dk_1 (dk_at dksJ23_init_3_1 14 rfl rfl)
theorem dJ23_init_3_38 : decode cJ23_init_3 38 = .ok (.putfield 17, 3) := dk_181 0 17 (dk_at dksJ23_init_3_1 15 rfl rfl)
theorem dJ23_init_3_41 : decode cJ23_init_3 41 = .ok (.aload_n 0, 1) := dk_42 (dk_at dksJ23_init_3_1 18 rfl rfl)
theorem dJ23_init_3_42 : decode cJ23_init_3 42 = .ok (.aload_n 1, 1) := dk_43 (dk_at dksJ23_init_3_1 19 rfl rfl)
theorem dJ23_init_3_43 : decode cJ23_init_3 43 = .ok (.putfield 31, 3) := dk_181 0 31 (dk_at dksJ23_init_3_1 20 rfl rfl)
theorem dJ23_init_3_46 : decode cJ23_init_3 46 = .ok (.aload_n 0, 1) := dk_42 (dk_at dksJ23_init_3_1 23 rfl rfl)
theorem dJ23_init_3_47 : decode cJ23_init_3 47 = .ok (.aload_n 2, 1) := dk_44 (dk_at dksJ23_init_3_2 0 rfl rfl)
theorem dJ23_init_3_48 : decode cJ23_init_3 48 = .ok (.putfield 7, 3) := dk_181 0 7 (dk_at dksJ23_init_3_2 1 rfl rfl)
theorem dJ23_init_3_51 : decode cJ23_init_3 51 = .ok (.iload_n 3, 1) := dk_29 (dk_at dksJ23_init_3_2 4 rfl rfl)
theorem dJ23_init_3_52 : decode cJ23_init_3 52 = .ok (.ifCond .ne 8, 3) := dk_154 0 8 (dk_at dksJ23_init_3_2 5 rfl rfl)
theorem dJ23_init_3_55 : decode cJ23_init_3 55 = .ok (.aload_n 0, 1) := dk_42 (dk_at dksJ23_init_3_2 8 rfl rfl)
theorem dJ23_init_3_56 : decode cJ23_init_3 56 = .ok (.aconst_null, 1) := dk_1 (dk_at dksJ23_init_3_2 9 rfl rfl)
theorem dJ23_init_3_57 : decode cJ23_init_3 57 = .ok (.putfield 24, 3) := dk_181 0 24 (dk_at dksJ23_init_3_2 10 rfl rfl)
theorem dJ23_init_3_60 : decode cJ23_init_3 60 = .ok (.return_, 1) := dk_177 (dk_at dksJ23_init_3_2 13 rfl rfl)
theorem q150 : (Jvm.Cond.initialized "java/lang/Throwable") ∈ lw_all := lw_g (lw_at lw_m1 28 rfl) rfl
theorem q954 : (Jvm.Cond.declares ({ cls := "java/lang/Throwable", name := "<init>", desc := "()V" } : Jvm.MethodName)) ∈ lw_tbl := lw_at lw_m4 112 rfl
theorem q955 : (Jvm.Cond.declares ({ cls := "java/lang/Throwable", name := "<init>", desc := "(Ljava/lang/String;)V" } : Jvm.MethodName)) ∈ lw_tbl := lw_at lw_m4 113 rfl
theorem q959 : (Jvm.Cond.lays "java/lang/Throwable" "java/lang/Throwable" "cause" "Ljava/lang/Throwable;") ∈ lw_all := lw_g (lw_at lw_m4 117 rfl) rfl
theorem q961 : (Jvm.Cond.lays "java/lang/Throwable" "java/lang/Throwable" "stackTrace" "[Ljava/lang/StackTraceElement;") ∈ lw_all := lw_g (lw_at lw_m4 119 rfl) rfl
theorem q963 : (Jvm.Cond.lays "java/lang/Throwable" "java/lang/Throwable" "suppressedExceptions" "Ljava/util/List;") ∈ lw_all := lw_g (lw_at lw_m4 121 rfl) rfl
theorem q965 : (Jvm.Cond.lays "java/lang/Throwable" "java/lang/Throwable" "detailMessage" "Ljava/lang/String;") ∈ lw_all := lw_g (lw_at lw_m4 123 rfl) rfl
theorem q967 : (Jvm.Cond.lays "java/lang/Throwable" "java/lang/Throwable" "backtrace" "Ljava/lang/Object;") ∈ lw_all := lw_g (lw_at lw_m4 125 rfl) rfl
theorem q968 : (Jvm.Cond.fieldLink "java/lang/Throwable" (198 : Nat) "java/lang/Throwable" "backtrace" "Ljava/lang/Object;") ∈ lw_all := lw_g (lw_at lw_m4 126 rfl) rfl
theorem q969 : (Jvm.Cond.superclass "java/lang/Throwable" "java/lang/Object") ∈ lw_all := lw_g (lw_at lw_m4 127 rfl) rfl
theorem q970 : (Jvm.Cond.instanceMethod ({ cls := "java/lang/Throwable", name := "<init>", desc := "()V" } : Jvm.MethodName)) ∈ lw_all := lw_g (lw_at lw_m4 128 rfl) rfl
theorem q971 : (Jvm.Cond.code ({ cls := "java/lang/Throwable", name := "<init>", desc := "()V" } : Jvm.MethodName) prog_48_method_1_code (1 : Nat) (Option.none : Option Jvm.ClassFile.FieldType)) ∈ lw_all := lw_g (lw_at lw_m4 129 rfl) rfl
theorem q972 : (Jvm.Cond.methodLink "java/lang/Throwable" (1 : Nat) ({ cls := "java/lang/Object", name := "<init>", desc := "()V" } : Jvm.MethodName)) ∈ lw_all := lw_g (lw_at lw_m4 130 rfl) rfl
theorem q973 : (Jvm.Cond.fieldLink "java/lang/Throwable" (13 : Nat) "java/lang/Throwable" "UNASSIGNED_STACK" "[Ljava/lang/StackTraceElement;") ∈ lw_all := lw_g (lw_at lw_m4 131 rfl) rfl
theorem q974 : (Jvm.Cond.laysStatic "java/lang/Throwable" "UNASSIGNED_STACK" "[Ljava/lang/StackTraceElement;") ∈ lw_tbl := lw_at lw_m4 132 rfl
theorem q975 : (Jvm.Cond.fieldLink "java/lang/Throwable" (20 : Nat) "java/lang/Throwable" "SUPPRESSED_SENTINEL" "Ljava/util/List;") ∈ lw_all := lw_g (lw_at lw_m4 133 rfl) rfl
theorem q976 : (Jvm.Cond.laysStatic "java/lang/Throwable" "SUPPRESSED_SENTINEL" "Ljava/util/List;") ∈ lw_tbl := lw_at lw_m4 134 rfl
theorem q977 : (Jvm.Cond.methodLink "java/lang/Throwable" (27 : Nat) ({ cls := "java/lang/Throwable", name := "fillInStackTrace", desc := "()Ljava/lang/Throwable;" } : Jvm.MethodName)) ∈ lw_all := lw_g (lw_at lw_m4 135 rfl) rfl
theorem q978 : (Jvm.Cond.instanceMethod ({ cls := "java/lang/Throwable", name := "fillInStackTrace", desc := "()Ljava/lang/Throwable;" } : Jvm.MethodName)) ∈ lw_all := lw_g (lw_at lw_m4 136 rfl) rfl
theorem q979 : (Jvm.Cond.sameMethod "java/lang/Throwable" "java/lang/Throwable" "fillInStackTrace" "()Ljava/lang/Throwable;") ∈ lw_all := lw_g (lw_at lw_m4 137 rfl) rfl
theorem q987 : (Jvm.Cond.codeSync ({ cls := "java/lang/Throwable", name := "fillInStackTrace", desc := "()Ljava/lang/Throwable;" } : Jvm.MethodName) prog_48_method_18_code (1 : Nat) (Option.some (Jvm.ClassFile.FieldType.object "java/lang/Throwable"))) ∈ lw_all := lw_g (lw_at lw_m4 145 rfl) rfl
theorem q988 : (Jvm.Cond.methodLink "java/lang/Throwable" (202 : Nat) ({ cls := "java/lang/Throwable", name := "fillInStackTrace", desc := "(I)Ljava/lang/Throwable;" } : Jvm.MethodName)) ∈ lw_all := lw_g (lw_at lw_m4 146 rfl) rfl
theorem q989 : (Jvm.Cond.privateMethod ({ cls := "java/lang/Throwable", name := "fillInStackTrace", desc := "(I)Ljava/lang/Throwable;" } : Jvm.MethodName)) ∈ lw_tbl := lw_at lw_m4 147 rfl
theorem q990 : (Jvm.Cond.instanceMethod ({ cls := "java/lang/Throwable", name := "fillInStackTrace", desc := "(I)Ljava/lang/Throwable;" } : Jvm.MethodName)) ∈ lw_all := lw_g (lw_at lw_m4 148 rfl) rfl
theorem q991 : (Jvm.Cond.instantiable "java/lang/Throwable" (6 : Nat)) ∈ lw_all := lw_g (lw_at lw_m4 149 rfl) rfl
theorem q992 : (Jvm.Cond.native ({ cls := "java/lang/Throwable", name := "fillInStackTrace", desc := "(I)Ljava/lang/Throwable;" } : Jvm.MethodName)) ∈ lw_all := lw_g (lw_at lw_m4 150 rfl) rfl
theorem q1003 : (Jvm.Cond.fieldLink "java/lang/Throwable" (198 : Nat) "java/lang/Throwable" "backtrace" "Ljava/lang/Object;") ∈ lw_all := lw_g (lw_at lw_m4 161 rfl) rfl
theorem q1004 : (Jvm.Cond.fieldLink "java/lang/Throwable" (31 : Nat) "java/lang/Throwable" "detailMessage" "Ljava/lang/String;") ∈ lw_all := lw_g (lw_at lw_m4 162 rfl) rfl
theorem q1005 : (Jvm.Cond.fieldLink "java/lang/Throwable" (7 : Nat) "java/lang/Throwable" "cause" "Ljava/lang/Throwable;") ∈ lw_all := lw_g (lw_at lw_m4 163 rfl) rfl
theorem q1006 : (Jvm.Cond.fieldLink "java/lang/Throwable" (17 : Nat) "java/lang/Throwable" "stackTrace" "[Ljava/lang/StackTraceElement;") ∈ lw_all := lw_g (lw_at lw_m4 164 rfl) rfl
theorem q1007 : (Jvm.Cond.fieldLink "java/lang/Throwable" (24 : Nat) "java/lang/Throwable" "suppressedExceptions" "Ljava/util/List;") ∈ lw_all := lw_g (lw_at lw_m4 165 rfl) rfl
theorem q1008 : (Jvm.Cond.soleField "java/lang/Throwable" "backtrace") ∈ lw_all := lw_g (lw_at lw_m4 166 rfl) rfl
theorem q1009 : (Jvm.Cond.soleField "java/lang/Throwable" "detailMessage") ∈ lw_all := lw_g (lw_at lw_m4 167 rfl) rfl
theorem q1010 : (Jvm.Cond.soleField "java/lang/Throwable" "cause") ∈ lw_all := lw_g (lw_at lw_m4 168 rfl) rfl
theorem q1011 : (Jvm.Cond.soleField "java/lang/Throwable" "stackTrace") ∈ lw_all := lw_g (lw_at lw_m4 169 rfl) rfl
theorem q1013 : (Jvm.Cond.soleField "java/lang/Throwable" "depth") ∈ lw_all := lw_g (lw_at lw_m4 171 rfl) rfl
theorem q1014 : (Jvm.Cond.soleField "java/lang/Throwable" "suppressedExceptions") ∈ lw_all := lw_g (lw_at lw_m4 172 rfl) rfl
theorem q1864 : (Jvm.Cond.instanceMethod ({ cls := "java/lang/Throwable", name := "<init>", desc := "(Ljava/lang/String;)V" } : Jvm.MethodName)) ∈ lw_all := lw_g (lw_at lw_m8 62 rfl) rfl
theorem q1865 : (Jvm.Cond.code ({ cls := "java/lang/Throwable", name := "<init>", desc := "(Ljava/lang/String;)V" } : Jvm.MethodName) prog_48_method_2_code (2 : Nat) (Option.none : Option Jvm.ClassFile.FieldType)) ∈ lw_all := lw_g (lw_at lw_m8 63 rfl) rfl
theorem q2326 : (Jvm.Cond.instanceMethod ({ cls := "java/lang/Throwable", name := "<init>", desc := "(Ljava/lang/String;Ljava/lang/Throwable;ZZ)V" } : Jvm.MethodName)) ∈ lw_all := lw_g (lw_at lw_m10 44 rfl) rfl
theorem q2327 : (Jvm.Cond.code ({ cls := "java/lang/Throwable", name := "<init>", desc := "(Ljava/lang/String;Ljava/lang/Throwable;ZZ)V" } : Jvm.MethodName) prog_48_method_5_code (5 : Nat) (Option.none : Option Jvm.ClassFile.FieldType)) ∈ lw_all := lw_g (lw_at lw_m10 45 rfl) rfl
theorem q3444 : (Jvm.Cond.sameMethod "java/lang/Throwable" "java/lang/Throwable" "fillInStackTrace" "(I)Ljava/lang/Throwable;") ∈ lw_all := lw_g (lw_at lw_m14 202 rfl) rfl
theorem q3502 : (Jvm.Cond.castable "java/lang/Throwable" "java/lang/Object") ∈ lw_tbl := lw_at lw_m15 20 rfl
theorem in_J23 : ∀ w ∈ wsJ230, w ∈ lw_all := lw_in wsJ230 [959, 961, 963, 965, 967] (by decide +kernel) (by decide +kernel)

/-! java/lang/Exception -/
set_option maxRecDepth 100000
def RJ24 : String := "java/lang/Exception"
abbrev cJ24_init_3 : ByteArray := prog_32_method_5_code
def yJ24_init_3 : MethodName := ⟨RJ24, "<init>", "(Ljava/lang/String;Ljava/lang/Throwable;ZZ)V"⟩
def dkwJ24_init_3_0 : List UInt8 := [42, 43, 44, 29, 21, 4, 183, 0, 16, 177]
abbrev dktJ24_init_3_0 : List UInt8 := dkwJ24_init_3_0 ++ []
theorem dksJ24_init_3_0 : cJ24_init_3.data.toList.drop 0 = dktJ24_init_3_0 := by decide +kernel
theorem dJ24_init_3_0 : decode cJ24_init_3 0 = .ok (.aload_n 0, 1) := dk_42 (dk_at dksJ24_init_3_0 0 rfl rfl)
theorem dJ24_init_3_1 : decode cJ24_init_3 1 = .ok (.aload_n 1, 1) := dk_43 (dk_at dksJ24_init_3_0 1 rfl rfl)
theorem dJ24_init_3_2 : decode cJ24_init_3 2 = .ok (.aload_n 2, 1) := dk_44 (dk_at dksJ24_init_3_0 2 rfl rfl)
theorem dJ24_init_3_3 : decode cJ24_init_3 3 = .ok (.iload_n 3, 1) := dk_29 (dk_at dksJ24_init_3_0 3 rfl rfl)
theorem dJ24_init_3_4 : decode cJ24_init_3 4 = .ok (.iload 4, 2) := dk_21 4 (dk_at dksJ24_init_3_0 4 rfl rfl)
theorem dJ24_init_3_6 : decode cJ24_init_3 6 = .ok (.invokespecial 16, 3) := dk_183 0 16 (dk_at dksJ24_init_3_0 6 rfl rfl)
theorem dJ24_init_3_9 : decode cJ24_init_3 9 = .ok (.return_, 1) := dk_177 (dk_at dksJ24_init_3_0 9 rfl rfl)
theorem q151 : (Jvm.Cond.initialized "java/lang/Exception") ∈ lw_all := lw_g (lw_at lw_m1 29 rfl) rfl
theorem q952 : (Jvm.Cond.declares ({ cls := "java/lang/Exception", name := "<init>", desc := "()V" } : Jvm.MethodName)) ∈ lw_tbl := lw_at lw_m4 110 rfl
theorem q953 : (Jvm.Cond.declares ({ cls := "java/lang/Exception", name := "<init>", desc := "(Ljava/lang/String;)V" } : Jvm.MethodName)) ∈ lw_tbl := lw_at lw_m4 111 rfl
theorem q1000 : (Jvm.Cond.instanceMethod ({ cls := "java/lang/Exception", name := "<init>", desc := "()V" } : Jvm.MethodName)) ∈ lw_all := lw_g (lw_at lw_m4 158 rfl) rfl
theorem q1001 : (Jvm.Cond.code ({ cls := "java/lang/Exception", name := "<init>", desc := "()V" } : Jvm.MethodName) prog_32_method_1_code (1 : Nat) (Option.none : Option Jvm.ClassFile.FieldType)) ∈ lw_all := lw_g (lw_at lw_m4 159 rfl) rfl
theorem q1002 : (Jvm.Cond.methodLink "java/lang/Exception" (1 : Nat) ({ cls := "java/lang/Throwable", name := "<init>", desc := "()V" } : Jvm.MethodName)) ∈ lw_all := lw_g (lw_at lw_m4 160 rfl) rfl
theorem q1861 : (Jvm.Cond.instanceMethod ({ cls := "java/lang/Exception", name := "<init>", desc := "(Ljava/lang/String;)V" } : Jvm.MethodName)) ∈ lw_all := lw_g (lw_at lw_m8 59 rfl) rfl
theorem q1862 : (Jvm.Cond.code ({ cls := "java/lang/Exception", name := "<init>", desc := "(Ljava/lang/String;)V" } : Jvm.MethodName) prog_32_method_2_code (2 : Nat) (Option.none : Option Jvm.ClassFile.FieldType)) ∈ lw_all := lw_g (lw_at lw_m8 60 rfl) rfl
theorem q1863 : (Jvm.Cond.methodLink "java/lang/Exception" (7 : Nat) ({ cls := "java/lang/Throwable", name := "<init>", desc := "(Ljava/lang/String;)V" } : Jvm.MethodName)) ∈ lw_all := lw_g (lw_at lw_m8 61 rfl) rfl
theorem q2323 : (Jvm.Cond.instanceMethod ({ cls := "java/lang/Exception", name := "<init>", desc := "(Ljava/lang/String;Ljava/lang/Throwable;ZZ)V" } : Jvm.MethodName)) ∈ lw_all := lw_g (lw_at lw_m10 41 rfl) rfl
theorem q2324 : (Jvm.Cond.code ({ cls := "java/lang/Exception", name := "<init>", desc := "(Ljava/lang/String;Ljava/lang/Throwable;ZZ)V" } : Jvm.MethodName) prog_32_method_5_code (5 : Nat) (Option.none : Option Jvm.ClassFile.FieldType)) ∈ lw_all := lw_g (lw_at lw_m10 42 rfl) rfl
theorem q2325 : (Jvm.Cond.methodLink "java/lang/Exception" (16 : Nat) ({ cls := "java/lang/Throwable", name := "<init>", desc := "(Ljava/lang/String;Ljava/lang/Throwable;ZZ)V" } : Jvm.MethodName)) ∈ lw_all := lw_g (lw_at lw_m10 43 rfl) rfl

/-! java/lang/RuntimeException -/
set_option maxRecDepth 100000
def RJ25 : String := "java/lang/RuntimeException"
theorem q152 : (Jvm.Cond.initialized "java/lang/RuntimeException") ∈ lw_all := lw_g (lw_at lw_m1 30 rfl) rfl
theorem q950 : (Jvm.Cond.declares ({ cls := "java/lang/RuntimeException", name := "<init>", desc := "()V" } : Jvm.MethodName)) ∈ lw_tbl := lw_at lw_m4 108 rfl
theorem q951 : (Jvm.Cond.declares ({ cls := "java/lang/RuntimeException", name := "<init>", desc := "(Ljava/lang/String;)V" } : Jvm.MethodName)) ∈ lw_tbl := lw_at lw_m4 109 rfl
theorem q997 : (Jvm.Cond.instanceMethod ({ cls := "java/lang/RuntimeException", name := "<init>", desc := "()V" } : Jvm.MethodName)) ∈ lw_all := lw_g (lw_at lw_m4 155 rfl) rfl
theorem q998 : (Jvm.Cond.code ({ cls := "java/lang/RuntimeException", name := "<init>", desc := "()V" } : Jvm.MethodName) prog_42_method_1_code (1 : Nat) (Option.none : Option Jvm.ClassFile.FieldType)) ∈ lw_all := lw_g (lw_at lw_m4 156 rfl) rfl
theorem q999 : (Jvm.Cond.methodLink "java/lang/RuntimeException" (1 : Nat) ({ cls := "java/lang/Exception", name := "<init>", desc := "()V" } : Jvm.MethodName)) ∈ lw_all := lw_g (lw_at lw_m4 157 rfl) rfl
theorem q1858 : (Jvm.Cond.instanceMethod ({ cls := "java/lang/RuntimeException", name := "<init>", desc := "(Ljava/lang/String;)V" } : Jvm.MethodName)) ∈ lw_all := lw_g (lw_at lw_m8 56 rfl) rfl
theorem q1859 : (Jvm.Cond.code ({ cls := "java/lang/RuntimeException", name := "<init>", desc := "(Ljava/lang/String;)V" } : Jvm.MethodName) prog_42_method_2_code (2 : Nat) (Option.none : Option Jvm.ClassFile.FieldType)) ∈ lw_all := lw_g (lw_at lw_m8 57 rfl) rfl
theorem q1860 : (Jvm.Cond.methodLink "java/lang/RuntimeException" (7 : Nat) ({ cls := "java/lang/Exception", name := "<init>", desc := "(Ljava/lang/String;)V" } : Jvm.MethodName)) ∈ lw_all := lw_g (lw_at lw_m8 58 rfl) rfl

/-! java/util/NoSuchElementException -/
set_option maxRecDepth 100000
def RJ26 : String := "java/util/NoSuchElementException"
def TJ26 : u_T := fun k => match k with
  | 0 => ("java/lang/Throwable", "cause", "Ljava/lang/Throwable;", false)
  | 1 => ("java/lang/Throwable", "stackTrace", "[Ljava/lang/StackTraceElement;", false)
  | 2 => ("java/lang/Throwable", "suppressedExceptions", "Ljava/util/List;", false)
  | 3 => ("java/lang/Throwable", "detailMessage", "Ljava/lang/String;", false)
  | 4 => ("java/lang/Throwable", "backtrace", "Ljava/lang/Object;", false)
  | _ => ("java/lang/Throwable", "depth", "I", false)
def tyJ26 : Nat → FieldType := fun k => match k with
  | 0 => .object "java/lang/Throwable"
  | 1 => .array (.object "java/lang/StackTraceElement")
  | 2 => .object "java/util/List"
  | 3 => .object "java/lang/String"
  | 4 => .object "java/lang/Object"
  | _ => .int
abbrev wsJ260 : List Cond := u_ws RJ26 TJ26 6
theorem nmJ26 : ∀ a, a < 6 → ∀ b, b < 6 → a ≠ b → (TJ26 a).2.1 ≠ (TJ26 b).2.1 := by decide +kernel
theorem tyJ26_ok : ∀ k, k < 6 → parseFieldDescriptor (TJ26 k).2.2.1 = some (tyJ26 k) := by decide +kernel
theorem q153 : (Jvm.Cond.initialized "java/util/NoSuchElementException") ∈ lw_all := lw_g (lw_at lw_m1 31 rfl) rfl
theorem q369 : (Jvm.Cond.selects "java/util/NoSuchElementException" ({ cls := "java/lang/Object", name := "getClass", desc := "()Ljava/lang/Class;" } : Jvm.MethodName) ({ cls := "java/lang/Object", name := "getClass", desc := "()Ljava/lang/Class;" } : Jvm.MethodName)) ∈ lw_all := lw_g (lw_at lw_m2 7 rfl) rfl
theorem q948 : (Jvm.Cond.instantiable "java/util/NoSuchElementException" (6 : Nat)) ∈ lw_all := lw_g (lw_at lw_m4 106 rfl) rfl
theorem q949 : (Jvm.Cond.castable "java/util/NoSuchElementException" "java/util/NoSuchElementException") ∈ lw_tbl := lw_at lw_m4 107 rfl
theorem q956 : (Jvm.Cond.selects "java/util/NoSuchElementException" ({ cls := "java/lang/Throwable", name := "fillInStackTrace", desc := "(I)Ljava/lang/Throwable;" } : Jvm.MethodName) ({ cls := "java/lang/Throwable", name := "fillInStackTrace", desc := "(I)Ljava/lang/Throwable;" } : Jvm.MethodName)) ∈ lw_all := lw_g (lw_at lw_m4 114 rfl) rfl
theorem q957 : (Jvm.Cond.selects "java/util/NoSuchElementException" ({ cls := "java/lang/Throwable", name := "fillInStackTrace", desc := "()Ljava/lang/Throwable;" } : Jvm.MethodName) ({ cls := "java/lang/Throwable", name := "fillInStackTrace", desc := "()Ljava/lang/Throwable;" } : Jvm.MethodName)) ∈ lw_all := lw_g (lw_at lw_m4 115 rfl) rfl
theorem q958 : (Jvm.Cond.lays "java/util/NoSuchElementException" "java/lang/Throwable" "cause" "Ljava/lang/Throwable;") ∈ lw_all := lw_g (lw_at lw_m4 116 rfl) rfl
theorem q960 : (Jvm.Cond.lays "java/util/NoSuchElementException" "java/lang/Throwable" "stackTrace" "[Ljava/lang/StackTraceElement;") ∈ lw_all := lw_g (lw_at lw_m4 118 rfl) rfl
theorem q962 : (Jvm.Cond.lays "java/util/NoSuchElementException" "java/lang/Throwable" "suppressedExceptions" "Ljava/util/List;") ∈ lw_all := lw_g (lw_at lw_m4 120 rfl) rfl
theorem q964 : (Jvm.Cond.lays "java/util/NoSuchElementException" "java/lang/Throwable" "detailMessage" "Ljava/lang/String;") ∈ lw_all := lw_g (lw_at lw_m4 122 rfl) rfl
theorem q966 : (Jvm.Cond.lays "java/util/NoSuchElementException" "java/lang/Throwable" "backtrace" "Ljava/lang/Object;") ∈ lw_all := lw_g (lw_at lw_m4 124 rfl) rfl
theorem q994 : (Jvm.Cond.instanceMethod ({ cls := "java/util/NoSuchElementException", name := "<init>", desc := "()V" } : Jvm.MethodName)) ∈ lw_all := lw_g (lw_at lw_m4 152 rfl) rfl
theorem q995 : (Jvm.Cond.code ({ cls := "java/util/NoSuchElementException", name := "<init>", desc := "()V" } : Jvm.MethodName) prog_69_method_1_code (1 : Nat) (Option.none : Option Jvm.ClassFile.FieldType)) ∈ lw_all := lw_g (lw_at lw_m4 153 rfl) rfl
theorem q996 : (Jvm.Cond.methodLink "java/util/NoSuchElementException" (1 : Nat) ({ cls := "java/lang/RuntimeException", name := "<init>", desc := "()V" } : Jvm.MethodName)) ∈ lw_all := lw_g (lw_at lw_m4 154 rfl) rfl
theorem q1012 : (Jvm.Cond.lays "java/util/NoSuchElementException" "java/lang/Throwable" "depth" "I") ∈ lw_all := lw_g (lw_at lw_m4 170 rfl) rfl
theorem q1015 : (Jvm.Cond.superclass "java/util/NoSuchElementException" "java/lang/RuntimeException") ∈ lw_all := lw_g (lw_at lw_m4 173 rfl) rfl
theorem q3471 : (Jvm.Cond.castable "java/util/NoSuchElementException" "java/lang/Object") ∈ lw_tbl := lw_at lw_m14 229 rfl
theorem in_J26 : ∀ w ∈ wsJ260, w ∈ lw_all := lw_in wsJ260 [958, 960, 962, 964, 966, 1012] (by decide +kernel) (by decide +kernel)

/-! java/util/ArrayDeque -/
set_option maxRecDepth 100000
def RJ27 : String := "java/util/ArrayDeque"
theorem q154 : (Jvm.Cond.initialized "java/util/ArrayDeque") ∈ lw_all := lw_g (lw_at lw_m1 32 rfl) rfl
theorem q1023 : (Jvm.Cond.instanceMethod ({ cls := "java/util/ArrayDeque", name := "poll", desc := "()Ljava/lang/Object;" } : Jvm.MethodName)) ∈ lw_all := lw_g (lw_at lw_m4 181 rfl) rfl
theorem q1024 : (Jvm.Cond.selects "java/util/ArrayDeque" ({ cls := "java/util/ArrayDeque", name := "poll", desc := "()Ljava/lang/Object;" } : Jvm.MethodName) ({ cls := "java/util/ArrayDeque", name := "poll", desc := "()Ljava/lang/Object;" } : Jvm.MethodName)) ∈ lw_all := lw_g (lw_at lw_m4 182 rfl) rfl
theorem q1025 : (Jvm.Cond.code ({ cls := "java/util/ArrayDeque", name := "poll", desc := "()Ljava/lang/Object;" } : Jvm.MethodName) prog_56_method_31_code (1 : Nat) (Option.some (Jvm.ClassFile.FieldType.object "java/lang/Object"))) ∈ lw_all := lw_g (lw_at lw_m4 183 rfl) rfl
theorem q1026 : (Jvm.Cond.methodLink "java/util/ArrayDeque" (93 : Nat) ({ cls := "java/util/ArrayDeque", name := "pollFirst", desc := "()Ljava/lang/Object;" } : Jvm.MethodName)) ∈ lw_all := lw_g (lw_at lw_m4 184 rfl) rfl
theorem q1027 : (Jvm.Cond.instanceMethod ({ cls := "java/util/ArrayDeque", name := "pollFirst", desc := "()Ljava/lang/Object;" } : Jvm.MethodName)) ∈ lw_all := lw_g (lw_at lw_m4 185 rfl) rfl
theorem q1028 : (Jvm.Cond.selects "java/util/ArrayDeque" ({ cls := "java/util/ArrayDeque", name := "pollFirst", desc := "()Ljava/lang/Object;" } : Jvm.MethodName) ({ cls := "java/util/ArrayDeque", name := "pollFirst", desc := "()Ljava/lang/Object;" } : Jvm.MethodName)) ∈ lw_all := lw_g (lw_at lw_m4 186 rfl) rfl
theorem q1029 : (Jvm.Cond.code ({ cls := "java/util/ArrayDeque", name := "pollFirst", desc := "()Ljava/lang/Object;" } : Jvm.MethodName) prog_56_method_20_code (4 : Nat) (Option.some (Jvm.ClassFile.FieldType.object "java/lang/Object"))) ∈ lw_all := lw_g (lw_at lw_m4 187 rfl) rfl
theorem q1030 : (Jvm.Cond.methodLink "java/util/ArrayDeque" (103 : Nat) ({ cls := "java/util/ArrayDeque", name := "elementAt", desc := "([Ljava/lang/Object;I)Ljava/lang/Object;" } : Jvm.MethodName)) ∈ lw_all := lw_g (lw_at lw_m4 188 rfl) rfl
theorem q1031 : (Jvm.Cond.static ({ cls := "java/util/ArrayDeque", name := "elementAt", desc := "([Ljava/lang/Object;I)Ljava/lang/Object;" } : Jvm.MethodName)) ∈ lw_all := lw_g (lw_at lw_m4 189 rfl) rfl
theorem q1032 : (Jvm.Cond.code ({ cls := "java/util/ArrayDeque", name := "elementAt", desc := "([Ljava/lang/Object;I)Ljava/lang/Object;" } : Jvm.MethodName) prog_56_method_10_code (2 : Nat) (Option.some (Jvm.ClassFile.FieldType.object "java/lang/Object"))) ∈ lw_all := lw_g (lw_at lw_m4 190 rfl) rfl
theorem q1033 : (Jvm.Cond.methodLink "java/util/ArrayDeque" (74 : Nat) ({ cls := "java/util/ArrayDeque", name := "inc", desc := "(II)I" } : Jvm.MethodName)) ∈ lw_all := lw_g (lw_at lw_m4 191 rfl) rfl
theorem q1034 : (Jvm.Cond.static ({ cls := "java/util/ArrayDeque", name := "inc", desc := "(II)I" } : Jvm.MethodName)) ∈ lw_all := lw_g (lw_at lw_m4 192 rfl) rfl
theorem q1035 : (Jvm.Cond.code ({ cls := "java/util/ArrayDeque", name := "inc", desc := "(II)I" } : Jvm.MethodName) prog_56_method_6_code (2 : Nat) (Option.some Jvm.ClassFile.FieldType.int)) ∈ lw_all := lw_g (lw_at lw_m4 193 rfl) rfl
theorem q1110 : (Jvm.Cond.instanceMethod ({ cls := "java/util/ArrayDeque", name := "isEmpty", desc := "()Z" } : Jvm.MethodName)) ∈ lw_all := lw_g (lw_at lw_m5 28 rfl) rfl
theorem q1111 : (Jvm.Cond.selects "java/util/ArrayDeque" ({ cls := "java/util/ArrayDeque", name := "isEmpty", desc := "()Z" } : Jvm.MethodName) ({ cls := "java/util/ArrayDeque", name := "isEmpty", desc := "()Z" } : Jvm.MethodName)) ∈ lw_all := lw_g (lw_at lw_m5 29 rfl) rfl
theorem q1112 : (Jvm.Cond.code ({ cls := "java/util/ArrayDeque", name := "isEmpty", desc := "()Z" } : Jvm.MethodName) prog_56_method_38_code (1 : Nat) (Option.some Jvm.ClassFile.FieldType.boolean)) ∈ lw_all := lw_g (lw_at lw_m5 30 rfl) rfl
theorem q3518 : (Jvm.Cond.fieldLink "java/util/ArrayDeque" (3 : Nat) "java/util/ArrayDeque" "elements" "[Ljava/lang/Object;") ∈ lw_all := lw_g (lw_at lw_m15 36 rfl) rfl
theorem q3519 : (Jvm.Cond.fieldLink "java/util/ArrayDeque" (24 : Nat) "java/util/ArrayDeque" "head" "I") ∈ lw_all := lw_g (lw_at lw_m15 37 rfl) rfl
theorem q3520 : (Jvm.Cond.fieldLink "java/util/ArrayDeque" (20 : Nat) "java/util/ArrayDeque" "tail" "I") ∈ lw_all := lw_g (lw_at lw_m15 38 rfl) rfl

/-! java/lang/Enum -/
set_option maxRecDepth 100000
def RJ28 : String := "java/lang/Enum"
abbrev cJ28_ordinal : ByteArray := prog_31_method_2_code
def yJ28_ordinal : MethodName := ⟨RJ28, "ordinal", "()I"⟩
theorem dJ28_ordinal_0 : decode cJ28_ordinal 0 = .ok (.aload_n 0, 1) := by decide +kernel
theorem dJ28_ordinal_1 : decode cJ28_ordinal 1 = .ok (.getfield 7, 3) := by decide +kernel
theorem dJ28_ordinal_4 : decode cJ28_ordinal 4 = .ok (.ireturn, 1) := by decide +kernel
theorem q156 : (Jvm.Cond.initialized "java/lang/Enum") ∈ lw_all := lw_g (lw_at lw_m1 34 rfl) rfl
theorem q326 : (Jvm.Cond.instanceMethod ({ cls := "java/lang/Enum", name := "compareTo", desc := "(Ljava/lang/Object;)I" } : Jvm.MethodName)) ∈ lw_all := lw_g (lw_at lw_m1 204 rfl) rfl
theorem q327 : (Jvm.Cond.publicMethod ({ cls := "java/lang/Enum", name := "compareTo", desc := "(Ljava/lang/Object;)I" } : Jvm.MethodName)) ∈ lw_tbl := lw_at lw_m1 205 rfl
theorem q328 : (Jvm.Cond.code ({ cls := "java/lang/Enum", name := "compareTo", desc := "(Ljava/lang/Object;)I" } : Jvm.MethodName) prog_31_method_15_code (2 : Nat) (Option.some Jvm.ClassFile.FieldType.int)) ∈ lw_all := lw_g (lw_at lw_m1 206 rfl) rfl
theorem q329 : (Jvm.Cond.classLink "java/lang/Enum" (2 : Nat) "java/lang/Enum") ∈ lw_all := lw_g (lw_at lw_m1 207 rfl) rfl
theorem q330 : (Jvm.Cond.methodLink "java/lang/Enum" (101 : Nat) ({ cls := "java/lang/Enum", name := "compareTo", desc := "(Ljava/lang/Enum;)I" } : Jvm.MethodName)) ∈ lw_all := lw_g (lw_at lw_m1 208 rfl) rfl
theorem q331 : (Jvm.Cond.instanceMethod ({ cls := "java/lang/Enum", name := "compareTo", desc := "(Ljava/lang/Enum;)I" } : Jvm.MethodName)) ∈ lw_all := lw_g (lw_at lw_m1 209 rfl) rfl
theorem q332 : (Jvm.Cond.sameMethod "java/lang/Enum" "java/lang/Enum" "compareTo" "(Ljava/lang/Enum;)I") ∈ lw_all := lw_g (lw_at lw_m1 210 rfl) rfl
theorem q334 : (Jvm.Cond.code ({ cls := "java/lang/Enum", name := "compareTo", desc := "(Ljava/lang/Enum;)I" } : Jvm.MethodName) prog_31_method_8_code (4 : Nat) (Option.some Jvm.ClassFile.FieldType.int)) ∈ lw_all := lw_g (lw_at lw_m1 212 rfl) rfl
theorem q335 : (Jvm.Cond.methodLink "java/lang/Enum" (29 : Nat) ({ cls := "java/lang/Object", name := "getClass", desc := "()Ljava/lang/Class;" } : Jvm.MethodName)) ∈ lw_all := lw_g (lw_at lw_m1 213 rfl) rfl
theorem q381 : (Jvm.Cond.methodLink "java/lang/Enum" (33 : Nat) ({ cls := "java/lang/Enum", name := "getDeclaringClass", desc := "()Ljava/lang/Class;" } : Jvm.MethodName)) ∈ lw_all := lw_g (lw_at lw_m2 19 rfl) rfl
theorem q382 : (Jvm.Cond.instanceMethod ({ cls := "java/lang/Enum", name := "getDeclaringClass", desc := "()Ljava/lang/Class;" } : Jvm.MethodName)) ∈ lw_all := lw_g (lw_at lw_m2 20 rfl) rfl
theorem q383 : (Jvm.Cond.sameMethod "java/lang/Enum" "java/lang/Enum" "getDeclaringClass" "()Ljava/lang/Class;") ∈ lw_all := lw_g (lw_at lw_m2 21 rfl) rfl
theorem q385 : (Jvm.Cond.code ({ cls := "java/lang/Enum", name := "getDeclaringClass", desc := "()Ljava/lang/Class;" } : Jvm.MethodName) prog_31_method_9_code (3 : Nat) (Option.some (Jvm.ClassFile.FieldType.object "java/lang/Class"))) ∈ lw_all := lw_g (lw_at lw_m2 23 rfl) rfl
theorem q767 : (Jvm.Cond.instanceMethod ({ cls := "java/lang/Enum", name := "equals", desc := "(Ljava/lang/Object;)Z" } : Jvm.MethodName)) ∈ lw_all := lw_g (lw_at lw_m3 165 rfl) rfl
theorem q768 : (Jvm.Cond.code ({ cls := "java/lang/Enum", name := "equals", desc := "(Ljava/lang/Object;)Z" } : Jvm.MethodName) prog_31_method_5_code (2 : Nat) (Option.some Jvm.ClassFile.FieldType.boolean)) ∈ lw_all := lw_g (lw_at lw_m3 166 rfl) rfl
theorem q1658 : (Jvm.Cond.declares ({ cls := "java/lang/Enum", name := "ordinal", desc := "()I" } : Jvm.MethodName)) ∈ lw_tbl := lw_at lw_m7 96 rfl
theorem q1660 : (Jvm.Cond.instanceMethod ({ cls := "java/lang/Enum", name := "ordinal", desc := "()I" } : Jvm.MethodName)) ∈ lw_all := lw_g (lw_at lw_m7 98 rfl) rfl
theorem q1661 : (Jvm.Cond.code ({ cls := "java/lang/Enum", name := "ordinal", desc := "()I" } : Jvm.MethodName) prog_31_method_2_code (1 : Nat) (Option.some Jvm.ClassFile.FieldType.int)) ∈ lw_all := lw_g (lw_at lw_m7 99 rfl) rfl
theorem q3517 : (Jvm.Cond.fieldLink "java/lang/Enum" (7 : Nat) "java/lang/Enum" "ordinal" "I") ∈ lw_all := lw_g (lw_at lw_m15 35 rfl) rfl

/-! java/util/Arrays -/
set_option maxRecDepth 100000
def RJ29 : String := "java/util/Arrays"
abbrev cJ29_copyOf : ByteArray := prog_59_method_119_code
def yJ29_copyOf : MethodName := ⟨RJ29, "copyOf", "([Ljava/lang/Object;I)[Ljava/lang/Object;"⟩
def dkwJ29_copyOf_0 : List UInt8 := [42, 27, 42, 182, 0, 86, 184, 1, 44, 176]
abbrev dktJ29_copyOf_0 : List UInt8 := dkwJ29_copyOf_0 ++ []
theorem dksJ29_copyOf_0 : cJ29_copyOf.data.toList.drop 0 = dktJ29_copyOf_0 := by decide +kernel
theorem dJ29_copyOf_0 : decode cJ29_copyOf 0 = .ok (.aload_n 0, 1) := dk_42 (dk_at dksJ29_copyOf_0 0 rfl rfl)
theorem dJ29_copyOf_1 : decode cJ29_copyOf 1 = .ok (.iload_n 1, 1) := dk_27 (dk_at dksJ29_copyOf_0 1 rfl rfl)
theorem dJ29_copyOf_2 : decode cJ29_copyOf 2 = .ok (.aload_n 0, 1) := dk_42 (dk_at dksJ29_copyOf_0 2 rfl rfl)
theorem dJ29_copyOf_3 : decode cJ29_copyOf 3 = .ok (.invokevirtual 86, 3) := dk_182 0 86 (dk_at dksJ29_copyOf_0 3 rfl rfl)
theorem dJ29_copyOf_6 : decode cJ29_copyOf 6 = .ok (.invokestatic 300, 3) := dk_184 1 44 (dk_at dksJ29_copyOf_0 6 rfl rfl)
theorem dJ29_copyOf_9 : decode cJ29_copyOf 9 = .ok (.areturn, 1) := dk_176 (dk_at dksJ29_copyOf_0 9 rfl rfl)
abbrev cJ29_copyOf_2 : ByteArray := prog_59_method_120_code
def yJ29_copyOf_2 : MethodName := ⟨RJ29, "copyOf", "([Ljava/lang/Object;ILjava/lang/Class;)[Ljava/lang/Object;"⟩
def dkwJ29_copyOf_2_1 : List UInt8 := [78, 42, 3, 45, 3, 42, 190, 27, 184, 1, 48, 184, 0, 150, 45, 176]
abbrev dktJ29_copyOf_2_1 : List UInt8 := dkwJ29_copyOf_2_1 ++ []
def dkwJ29_copyOf_2_0 : List UInt8 := [44, 18, 110, 166, 0, 10, 27, 189, 0, 2, 167, 0, 14, 44, 182, 0, 90, 27, 184, 0, 95, 192, 0, 110]
abbrev dktJ29_copyOf_2_0 : List UInt8 := dkwJ29_copyOf_2_0 ++ dktJ29_copyOf_2_1
theorem dksJ29_copyOf_2_0 : cJ29_copyOf_2.data.toList.drop 0 = dktJ29_copyOf_2_0 := by decide +kernel
theorem dksJ29_copyOf_2_1 : cJ29_copyOf_2.data.toList.drop 24 = dktJ29_copyOf_2_1 := dk_seg dksJ29_copyOf_2_0 24 rfl rfl
theorem dJ29_copyOf_2_0 : decode cJ29_copyOf_2 0 = .ok (.aload_n 2, 1) := dk_44 (dk_at dksJ29_copyOf_2_0 0 rfl rfl)
theorem dJ29_copyOf_2_1 : decode cJ29_copyOf_2 1 = .ok (.ldc 110, 2) := dk_18 110 (dk_at dksJ29_copyOf_2_0 1 rfl rfl)
theorem dJ29_copyOf_2_3 : decode cJ29_copyOf_2 3 = .ok (.if_acmp .ne 10, 3) := dk_166 0 10 (dk_at dksJ29_copyOf_2_0 3 rfl rfl)
theorem dJ29_copyOf_2_6 : decode cJ29_copyOf_2 6 = .ok (.iload_n 1, 1) := dk_27 (dk_at dksJ29_copyOf_2_0 6 rfl rfl)
theorem dJ29_copyOf_2_7 : decode cJ29_copyOf_2 7 = .ok (.anewarray 2, 3) := dk_189 0 2 (dk_at dksJ29_copyOf_2_0 7 rfl rfl)
theorem dJ29_copyOf_2_10 : decode cJ29_copyOf_2 10 = .ok (.goto 14, 3) := dk_167 0 14 (dk_at dksJ29_copyOf_2_0 10 rfl rfl)
theorem dJ29_copyOf_2_13 : decode cJ29_copyOf_2 13 = .ok (.aload_n 2, 1) := dk_44 (dk_at dksJ29_copyOf_2_0 13 rfl rfl)
theorem dJ29_copyOf_2_14 : decode cJ29_copyOf_2 14 = .ok (.invokevirtual 90, 3) := dk_182 0 90 (dk_at dksJ29_copyOf_2_0 14 rfl rfl)
theorem dJ29_copyOf_2_17 : decode cJ29_copyOf_2 17 = .ok (.iload_n 1, 1) := dk_27 (dk_at dksJ29_copyOf_2_0 17 rfl rfl)
theorem dJ29_copyOf_2_18 : decode cJ29_copyOf_2 18 = .ok (.invokestatic 95, 3) := dk_184 0 95 (dk_at dksJ29_copyOf_2_0 18 rfl rfl)
theorem dJ29_copyOf_2_21 : decode cJ29_copyOf_2 21 = .ok (.checkcast 110, 3) := dk_192 0 110 (dk_at dksJ29_copyOf_2_0 21 rfl rfl)
theorem dJ29_copyOf_2_24 : decode cJ29_copyOf_2 24 = .ok (.astore_n 3, 1) := dk_78 (dk_at dksJ29_copyOf_2_1 0 rfl rfl)
theorem dJ29_copyOf_2_25 : decode cJ29_copyOf_2 25 = .ok (.aload_n 0, 1) := dk_42 (dk_at dksJ29_copyOf_2_1 1 rfl rfl)
theorem dJ29_copyOf_2_26 : decode cJ29_copyOf_2 26 = .ok (.iconst 0, 1) := dk_3 (dk_at dksJ29_copyOf_2_1 2 rfl rfl)
theorem dJ29_copyOf_2_27 : decode cJ29_copyOf_2 27 = .ok (.aload_n 3, 1) := dk_45 (dk_at dksJ29_copyOf_2_1 3 rfl rfl)
theorem dJ29_copyOf_2_28 : decode cJ29_copyOf_2 28 = .ok (.iconst 0, 1) := dk_3 (dk_at dksJ29_copyOf_2_1 4 rfl rfl)
theorem dJ29_copyOf_2_29 : decode cJ29_copyOf_2 29 = .ok (.aload_n 0, 1) := dk_42 (dk_at dksJ29_copyOf_2_1 5 rfl rfl)
theorem dJ29_copyOf_2_30 : decode cJ29_copyOf_2 30 = .ok (.arraylength, 1) := dk_190 (dk_at dksJ29_copyOf_2_1 6 rfl rfl)
theorem dJ29_copyOf_2_31 : decode cJ29_copyOf_2 31 = .ok (.iload_n 1, 1) := dk_27 (dk_at dksJ29_copyOf_2_1 7 rfl rfl)
theorem dJ29_copyOf_2_32 : decode cJ29_copyOf_2 32 = .ok (.invokestatic 304, 3) := dk_184 1 48 (dk_at dksJ29_copyOf_2_1 8 rfl rfl)
theorem dJ29_copyOf_2_35 : decode cJ29_copyOf_2 35 = .ok (.invokestatic 150, 3) := dk_184 0 150 (dk_at dksJ29_copyOf_2_1 11 rfl rfl)
theorem dJ29_copyOf_2_38 : decode cJ29_copyOf_2 38 = .ok (.aload_n 3, 1) := dk_45 (dk_at dksJ29_copyOf_2_1 14 rfl rfl)
theorem dJ29_copyOf_2_39 : decode cJ29_copyOf_2 39 = .ok (.areturn, 1) := dk_176 (dk_at dksJ29_copyOf_2_1 15 rfl rfl)
abbrev cJ29_copyOf_4 : ByteArray := prog_59_method_124_code
def yJ29_copyOf_4 : MethodName := ⟨RJ29, "copyOf", "([JI)[J"⟩
def dkwJ29_copyOf_4_1 : List UInt8 := [27, 184, 1, 48, 184, 0, 150, 44, 176]
abbrev dktJ29_copyOf_4_1 : List UInt8 := dkwJ29_copyOf_4_1 ++ []
def dkwJ29_copyOf_4_0 : List UInt8 := [27, 42, 190, 160, 0, 11, 42, 182, 1, 63, 192, 1, 64, 176, 27, 188, 11, 77, 42, 3, 44, 3, 42, 190]
abbrev dktJ29_copyOf_4_0 : List UInt8 := dkwJ29_copyOf_4_0 ++ dktJ29_copyOf_4_1
theorem dksJ29_copyOf_4_0 : cJ29_copyOf_4.data.toList.drop 0 = dktJ29_copyOf_4_0 := by decide +kernel
theorem dksJ29_copyOf_4_1 : cJ29_copyOf_4.data.toList.drop 24 = dktJ29_copyOf_4_1 := dk_seg dksJ29_copyOf_4_0 24 rfl rfl
theorem dJ29_copyOf_4_0 : decode cJ29_copyOf_4 0 = .ok (.iload_n 1, 1) := dk_27 (dk_at dksJ29_copyOf_4_0 0 rfl rfl)
theorem dJ29_copyOf_4_1 : decode cJ29_copyOf_4 1 = .ok (.aload_n 0, 1) := dk_42 (dk_at dksJ29_copyOf_4_0 1 rfl rfl)
theorem dJ29_copyOf_4_2 : decode cJ29_copyOf_4 2 = .ok (.arraylength, 1) := dk_190 (dk_at dksJ29_copyOf_4_0 2 rfl rfl)
theorem dJ29_copyOf_4_3 : decode cJ29_copyOf_4 3 = .ok (.if_icmp .ne 11, 3) := dk_160 0 11 (dk_at dksJ29_copyOf_4_0 3 rfl rfl)
theorem dJ29_copyOf_4_6 : decode cJ29_copyOf_4 6 = .ok (.aload_n 0, 1) := dk_42 (dk_at dksJ29_copyOf_4_0 6 rfl rfl)
theorem dJ29_copyOf_4_7 : decode cJ29_copyOf_4 7 = .ok (.invokevirtual 319, 3) := dk_182 1 63 (dk_at dksJ29_copyOf_4_0 7 rfl rfl)
theorem dJ29_copyOf_4_10 : decode cJ29_copyOf_4 10 = .ok (.checkcast 320, 3) := dk_192 1 64 (dk_at dksJ29_copyOf_4_0 10 rfl rfl)
theorem dJ29_copyOf_4_13 : decode cJ29_copyOf_4 13 = .ok (.areturn, 1) := dk_176 (dk_at dksJ29_copyOf_4_0 13 rfl rfl)
theorem dJ29_copyOf_4_14 : decode cJ29_copyOf_4 14 = .ok (.iload_n 1, 1) := dk_27 (dk_at dksJ29_copyOf_4_0 14 rfl rfl)
theorem dJ29_copyOf_4_15 : decode cJ29_copyOf_4 15 = .ok (.newarray .long, 2) := dk_188_11 (dk_at dksJ29_copyOf_4_0 15 rfl rfl)
theorem dJ29_copyOf_4_17 : decode cJ29_copyOf_4 17 = .ok (.astore_n 2, 1) := dk_77 (dk_at dksJ29_copyOf_4_0 17 rfl rfl)
theorem dJ29_copyOf_4_18 : decode cJ29_copyOf_4 18 = .ok (.aload_n 0, 1) := dk_42 (dk_at dksJ29_copyOf_4_0 18 rfl rfl)
theorem dJ29_copyOf_4_19 : decode cJ29_copyOf_4 19 = .ok (.iconst 0, 1) := dk_3 (dk_at dksJ29_copyOf_4_0 19 rfl rfl)
theorem dJ29_copyOf_4_20 : decode cJ29_copyOf_4 20 = .ok (.aload_n 2, 1) := dk_44 (dk_at dksJ29_copyOf_4_0 20 rfl rfl)
theorem dJ29_copyOf_4_21 : decode cJ29_copyOf_4 21 = .ok (.iconst 0, 1) := dk_3 (dk_at dksJ29_copyOf_4_0 21 rfl rfl)
theorem dJ29_copyOf_4_22 : decode cJ29_copyOf_4 22 = .ok (.aload_n 0, 1) := dk_42 (dk_at dksJ29_copyOf_4_0 22 rfl rfl)
theorem dJ29_copyOf_4_23 : decode cJ29_copyOf_4 23 = .ok (.arraylength, 1) := dk_190 (dk_at dksJ29_copyOf_4_0 23 rfl rfl)
theorem dJ29_copyOf_4_24 : decode cJ29_copyOf_4 24 = .ok (.iload_n 1, 1) := dk_27 (dk_at dksJ29_copyOf_4_1 0 rfl rfl)
theorem dJ29_copyOf_4_25 : decode cJ29_copyOf_4 25 = .ok (.invokestatic 304, 3) := dk_184 1 48 (dk_at dksJ29_copyOf_4_1 1 rfl rfl)
theorem dJ29_copyOf_4_28 : decode cJ29_copyOf_4 28 = .ok (.invokestatic 150, 3) := dk_184 0 150 (dk_at dksJ29_copyOf_4_1 4 rfl rfl)
theorem dJ29_copyOf_4_31 : decode cJ29_copyOf_4 31 = .ok (.aload_n 2, 1) := dk_44 (dk_at dksJ29_copyOf_4_1 7 rfl rfl)
theorem dJ29_copyOf_4_32 : decode cJ29_copyOf_4 32 = .ok (.areturn, 1) := dk_176 (dk_at dksJ29_copyOf_4_1 8 rfl rfl)
theorem q158 : (Jvm.Cond.initialized "java/util/Arrays") ∈ lw_all := lw_g (lw_at lw_m1 36 rfl) rfl
theorem q1230 : (Jvm.Cond.static ({ cls := "java/util/Arrays", name := "copyOf", desc := "([Ljava/lang/Object;I)[Ljava/lang/Object;" } : Jvm.MethodName)) ∈ lw_all := lw_g (lw_at lw_m5 148 rfl) rfl
theorem q1231 : (Jvm.Cond.code ({ cls := "java/util/Arrays", name := "copyOf", desc := "([Ljava/lang/Object;I)[Ljava/lang/Object;" } : Jvm.MethodName) prog_59_method_119_code (2 : Nat) (Option.some (Jvm.ClassFile.FieldType.array (Jvm.ClassFile.FieldType.object "java/lang/Object")))) ∈ lw_all := lw_g (lw_at lw_m5 149 rfl) rfl
theorem q1232 : (Jvm.Cond.methodLink "java/util/Arrays" (86 : Nat) ({ cls := "java/lang/Object", name := "getClass", desc := "()Ljava/lang/Class;" } : Jvm.MethodName)) ∈ lw_all := lw_g (lw_at lw_m5 150 rfl) rfl
theorem q1233 : (Jvm.Cond.methodLink "java/util/Arrays" (300 : Nat) ({ cls := "java/util/Arrays", name := "copyOf", desc := "([Ljava/lang/Object;ILjava/lang/Class;)[Ljava/lang/Object;" } : Jvm.MethodName)) ∈ lw_all := lw_g (lw_at lw_m5 151 rfl) rfl
theorem q1234 : (Jvm.Cond.static ({ cls := "java/util/Arrays", name := "copyOf", desc := "([Ljava/lang/Object;ILjava/lang/Class;)[Ljava/lang/Object;" } : Jvm.MethodName)) ∈ lw_all := lw_g (lw_at lw_m5 152 rfl) rfl
theorem q1235 : (Jvm.Cond.code ({ cls := "java/util/Arrays", name := "copyOf", desc := "([Ljava/lang/Object;ILjava/lang/Class;)[Ljava/lang/Object;" } : Jvm.MethodName) prog_59_method_120_code (4 : Nat) (Option.some (Jvm.ClassFile.FieldType.array (Jvm.ClassFile.FieldType.object "java/lang/Object")))) ∈ lw_all := lw_g (lw_at lw_m5 153 rfl) rfl
theorem q1236 : (Jvm.Cond.classLink "java/util/Arrays" (110 : Nat) "[Ljava/lang/Object;") ∈ lw_all := lw_g (lw_at lw_m5 154 rfl) rfl
theorem q1238 : (Jvm.Cond.classLink "java/util/Arrays" (2 : Nat) "java/lang/Object") ∈ lw_all := lw_g (lw_at lw_m5 156 rfl) rfl
theorem q1239 : (Jvm.Cond.methodLink "java/util/Arrays" (304 : Nat) ({ cls := "java/lang/Math", name := "min", desc := "(II)I" } : Jvm.MethodName)) ∈ lw_all := lw_g (lw_at lw_m5 157 rfl) rfl
theorem q1240 : (Jvm.Cond.methodLink "java/util/Arrays" (150 : Nat) ({ cls := "java/lang/System", name := "arraycopy", desc := "(Ljava/lang/Object;ILjava/lang/Object;II)V" } : Jvm.MethodName)) ∈ lw_all := lw_g (lw_at lw_m5 158 rfl) rfl
theorem q1727 : (Jvm.Cond.static ({ cls := "java/util/Arrays", name := "copyOf", desc := "([BI)[B" } : Jvm.MethodName)) ∈ lw_all := lw_g (lw_at lw_m7 165 rfl) rfl
theorem q1728 : (Jvm.Cond.code ({ cls := "java/util/Arrays", name := "copyOf", desc := "([BI)[B" } : Jvm.MethodName) prog_59_method_121_code (3 : Nat) (Option.some (Jvm.ClassFile.FieldType.array Jvm.ClassFile.FieldType.byte))) ∈ lw_all := lw_g (lw_at lw_m7 166 rfl) rfl
theorem q1729 : (Jvm.Cond.methodLink "java/util/Arrays" (310 : Nat) ({ cls := "[B", name := "clone", desc := "()Ljava/lang/Object;" } : Jvm.MethodName)) ∈ lw_all := lw_g (lw_at lw_m7 167 rfl) rfl
theorem q1735 : (Jvm.Cond.classLink "java/util/Arrays" (311 : Nat) "[B") ∈ lw_all := lw_g (lw_at lw_m7 173 rfl) rfl
theorem q1839 : (Jvm.Cond.static ({ cls := "java/util/Arrays", name := "copyOfRange", desc := "([BII)[B" } : Jvm.MethodName)) ∈ lw_all := lw_g (lw_at lw_m8 37 rfl) rfl
theorem q1840 : (Jvm.Cond.code ({ cls := "java/util/Arrays", name := "copyOfRange", desc := "([BII)[B" } : Jvm.MethodName) prog_59_method_132_code (3 : Nat) (Option.some (Jvm.ClassFile.FieldType.array Jvm.ClassFile.FieldType.byte))) ∈ lw_all := lw_g (lw_at lw_m8 38 rfl) rfl
theorem q1841 : (Jvm.Cond.methodLink "java/util/Arrays" (339 : Nat) ({ cls := "java/util/Arrays", name := "copyOfRangeByte", desc := "([BII)[B" } : Jvm.MethodName)) ∈ lw_all := lw_g (lw_at lw_m8 39 rfl) rfl
theorem q1842 : (Jvm.Cond.static ({ cls := "java/util/Arrays", name := "copyOfRangeByte", desc := "([BII)[B" } : Jvm.MethodName)) ∈ lw_all := lw_g (lw_at lw_m8 40 rfl) rfl
theorem q1843 : (Jvm.Cond.code ({ cls := "java/util/Arrays", name := "copyOfRangeByte", desc := "([BII)[B" } : Jvm.MethodName) prog_59_method_133_code (5 : Nat) (Option.some (Jvm.ClassFile.FieldType.array Jvm.ClassFile.FieldType.byte))) ∈ lw_all := lw_g (lw_at lw_m8 41 rfl) rfl
theorem q1844 : (Jvm.Cond.methodLink "java/util/Arrays" (343 : Nat) ({ cls := "java/util/Arrays", name := "checkLength", desc := "(II)V" } : Jvm.MethodName)) ∈ lw_all := lw_g (lw_at lw_m8 42 rfl) rfl
theorem q1845 : (Jvm.Cond.static ({ cls := "java/util/Arrays", name := "checkLength", desc := "(II)V" } : Jvm.MethodName)) ∈ lw_all := lw_g (lw_at lw_m8 43 rfl) rfl
theorem q1846 : (Jvm.Cond.code ({ cls := "java/util/Arrays", name := "checkLength", desc := "(II)V" } : Jvm.MethodName) prog_59_method_131_code (2 : Nat) (Option.none : Option Jvm.ClassFile.FieldType)) ∈ lw_all := lw_g (lw_at lw_m8 44 rfl) rfl
theorem q1847 : (Jvm.Cond.classLink "java/util/Arrays" (43 : Nat) "java/lang/IllegalArgumentException") ∈ lw_all := lw_g (lw_at lw_m8 45 rfl) rfl
theorem q1848 : (Jvm.Cond.classLink "java/util/Arrays" (45 : Nat) "java/lang/StringBuilder") ∈ lw_all := lw_g (lw_at lw_m8 46 rfl) rfl
theorem q1849 : (Jvm.Cond.methodLink "java/util/Arrays" (47 : Nat) ({ cls := "java/lang/StringBuilder", name := "<init>", desc := "()V" } : Jvm.MethodName)) ∈ lw_all := lw_g (lw_at lw_m8 47 rfl) rfl
theorem q1850 : (Jvm.Cond.methodLink "java/util/Arrays" (54 : Nat) ({ cls := "java/lang/StringBuilder", name := "append", desc := "(I)Ljava/lang/StringBuilder;" } : Jvm.MethodName)) ∈ lw_all := lw_g (lw_at lw_m8 48 rfl) rfl
theorem q1851 : (Jvm.Cond.stringRef "java/util/Arrays" (337 : Nat) " > ") ∈ lw_tbl := lw_at lw_m8 49 rfl
theorem q1852 : (Jvm.Cond.methodLink "java/util/Arrays" (50 : Nat) ({ cls := "java/lang/StringBuilder", name := "append", desc := "(Ljava/lang/String;)Ljava/lang/StringBuilder;" } : Jvm.MethodName)) ∈ lw_all := lw_g (lw_at lw_m8 50 rfl) rfl
theorem q1853 : (Jvm.Cond.methodLink "java/util/Arrays" (61 : Nat) ({ cls := "java/lang/StringBuilder", name := "toString", desc := "()Ljava/lang/String;" } : Jvm.MethodName)) ∈ lw_all := lw_g (lw_at lw_m8 51 rfl) rfl
theorem q1854 : (Jvm.Cond.methodLink "java/util/Arrays" (65 : Nat) ({ cls := "java/lang/IllegalArgumentException", name := "<init>", desc := "(Ljava/lang/String;)V" } : Jvm.MethodName)) ∈ lw_all := lw_g (lw_at lw_m8 52 rfl) rfl
theorem q1903 : (Jvm.Cond.static ({ cls := "java/util/Arrays", name := "copyOf", desc := "([JI)[J" } : Jvm.MethodName)) ∈ lw_all := lw_g (lw_at lw_m8 101 rfl) rfl
theorem q1904 : (Jvm.Cond.code ({ cls := "java/util/Arrays", name := "copyOf", desc := "([JI)[J" } : Jvm.MethodName) prog_59_method_124_code (3 : Nat) (Option.some (Jvm.ClassFile.FieldType.array Jvm.ClassFile.FieldType.long))) ∈ lw_all := lw_g (lw_at lw_m8 102 rfl) rfl
theorem q1905 : (Jvm.Cond.methodLink "java/util/Arrays" (319 : Nat) ({ cls := "[J", name := "clone", desc := "()Ljava/lang/Object;" } : Jvm.MethodName)) ∈ lw_all := lw_g (lw_at lw_m8 103 rfl) rfl
theorem q1909 : (Jvm.Cond.classLink "java/util/Arrays" (320 : Nat) "[J") ∈ lw_all := lw_g (lw_at lw_m8 107 rfl) rfl

/-! java/util/AbstractList -/
set_option maxRecDepth 100000
def RJ3 : String := "java/util/AbstractList"
abbrev cJ3_init : ByteArray := prog_52_method_1_code
def yJ3_init : MethodName := ⟨RJ3, "<init>", "()V"⟩
def dkwJ3_init_0 : List UInt8 := [42, 183, 0, 1, 42, 3, 181, 0, 7, 177]
abbrev dktJ3_init_0 : List UInt8 := dkwJ3_init_0 ++ []
theorem dksJ3_init_0 : cJ3_init.data.toList.drop 0 = dktJ3_init_0 := by decide +kernel
theorem dJ3_init_0 : decode cJ3_init 0 = .ok (.aload_n 0, 1) := dk_42 (dk_at dksJ3_init_0 0 rfl rfl)
theorem dJ3_init_1 : decode cJ3_init 1 = .ok (.invokespecial 1, 3) := dk_183 0 1 (dk_at dksJ3_init_0 1 rfl rfl)
theorem dJ3_init_4 : decode cJ3_init 4 = .ok (.aload_n 0, 1) := dk_42 (dk_at dksJ3_init_0 4 rfl rfl)
theorem dJ3_init_5 : decode cJ3_init 5 = .ok (.iconst 0, 1) := dk_3 (dk_at dksJ3_init_0 5 rfl rfl)
theorem dJ3_init_6 : decode cJ3_init 6 = .ok (.putfield 7, 3) := dk_181 0 7 (dk_at dksJ3_init_0 6 rfl rfl)
theorem dJ3_init_9 : decode cJ3_init 9 = .ok (.return_, 1) := dk_177 (dk_at dksJ3_init_0 9 rfl rfl)
theorem q128 : (Jvm.Cond.initialized "java/util/AbstractList") ∈ lw_all := lw_g (lw_at lw_m1 6 rfl) rfl
theorem q245 : (Jvm.Cond.instanceMethod ({ cls := "java/util/AbstractList", name := "<init>", desc := "()V" } : Jvm.MethodName)) ∈ lw_all := lw_g (lw_at lw_m1 123 rfl) rfl
theorem q246 : (Jvm.Cond.code ({ cls := "java/util/AbstractList", name := "<init>", desc := "()V" } : Jvm.MethodName) prog_52_method_1_code (1 : Nat) (Option.none : Option Jvm.ClassFile.FieldType)) ∈ lw_all := lw_g (lw_at lw_m1 124 rfl) rfl
theorem q247 : (Jvm.Cond.methodLink "java/util/AbstractList" (1 : Nat) ({ cls := "java/util/AbstractCollection", name := "<init>", desc := "()V" } : Jvm.MethodName)) ∈ lw_all := lw_g (lw_at lw_m1 125 rfl) rfl
theorem q257 : (Jvm.Cond.fieldLink "java/util/AbstractList" (7 : Nat) "java/util/AbstractList" "modCount" "I") ∈ lw_all := lw_g (lw_at lw_m1 135 rfl) rfl
theorem q266 : (Jvm.Cond.soleField "java/util/AbstractList" "modCount") ∈ lw_all := lw_g (lw_at lw_m1 144 rfl) rfl

/-! java/lang/IllegalArgumentException -/
set_option maxRecDepth 100000
def RJ30 : String := "java/lang/IllegalArgumentException"
def TJ30 : u_T := fun k => match k with
  | 0 => ("java/lang/Throwable", "cause", "Ljava/lang/Throwable;", false)
  | 1 => ("java/lang/Throwable", "stackTrace", "[Ljava/lang/StackTraceElement;", false)
  | 2 => ("java/lang/Throwable", "suppressedExceptions", "Ljava/util/List;", false)
  | 3 => ("java/lang/Throwable", "detailMessage", "Ljava/lang/String;", false)
  | 4 => ("java/lang/Throwable", "backtrace", "Ljava/lang/Object;", false)
  | _ => ("java/lang/Throwable", "depth", "I", false)
def tyJ30 : Nat → FieldType := fun k => match k with
  | 0 => .object "java/lang/Throwable"
  | 1 => .array (.object "java/lang/StackTraceElement")
  | 2 => .object "java/util/List"
  | 3 => .object "java/lang/String"
  | 4 => .object "java/lang/Object"
  | _ => .int
abbrev wsJ300 : List Cond := u_ws RJ30 TJ30 6
theorem nmJ30 : ∀ a, a < 6 → ∀ b, b < 6 → a ≠ b → (TJ30 a).2.1 ≠ (TJ30 b).2.1 := by decide +kernel
theorem tyJ30_ok : ∀ k, k < 6 → parseFieldDescriptor (TJ30 k).2.2.1 = some (tyJ30 k) := by decide +kernel
theorem q161 : (Jvm.Cond.initialized "java/lang/IllegalArgumentException") ∈ lw_all := lw_g (lw_at lw_m1 39 rfl) rfl
theorem q360 : (Jvm.Cond.selects "java/lang/IllegalArgumentException" ({ cls := "java/lang/Object", name := "getClass", desc := "()Ljava/lang/Class;" } : Jvm.MethodName) ({ cls := "java/lang/Object", name := "getClass", desc := "()Ljava/lang/Class;" } : Jvm.MethodName)) ∈ lw_all := lw_g (lw_at lw_m1 238 rfl) rfl
theorem q783 : (Jvm.Cond.selects "java/lang/IllegalArgumentException" ({ cls := "java/lang/Object", name := "equals", desc := "(Ljava/lang/Object;)Z" } : Jvm.MethodName) ({ cls := "java/lang/Object", name := "equals", desc := "(Ljava/lang/Object;)Z" } : Jvm.MethodName)) ∈ lw_all := lw_g (lw_at lw_m3 181 rfl) rfl
theorem q984 : (Jvm.Cond.selects "java/lang/IllegalArgumentException" ({ cls := "java/lang/Throwable", name := "fillInStackTrace", desc := "()Ljava/lang/Throwable;" } : Jvm.MethodName) ({ cls := "java/lang/Throwable", name := "fillInStackTrace", desc := "()Ljava/lang/Throwable;" } : Jvm.MethodName)) ∈ lw_all := lw_g (lw_at lw_m4 142 rfl) rfl
theorem q1323 : (Jvm.Cond.instantiable "java/lang/IllegalArgumentException" (6 : Nat)) ∈ lw_all := lw_g (lw_at lw_m6 1 rfl) rfl
theorem q1324 : (Jvm.Cond.castable "java/lang/IllegalArgumentException" "java/lang/IllegalArgumentException") ∈ lw_tbl := lw_at lw_m6 2 rfl
theorem q1325 : (Jvm.Cond.selects "java/lang/IllegalArgumentException" ({ cls := "java/lang/Throwable", name := "fillInStackTrace", desc := "(I)Ljava/lang/Throwable;" } : Jvm.MethodName) ({ cls := "java/lang/Throwable", name := "fillInStackTrace", desc := "(I)Ljava/lang/Throwable;" } : Jvm.MethodName)) ∈ lw_all := lw_g (lw_at lw_m6 3 rfl) rfl
theorem q1326 : (Jvm.Cond.lays "java/lang/IllegalArgumentException" "java/lang/Throwable" "cause" "Ljava/lang/Throwable;") ∈ lw_all := lw_g (lw_at lw_m6 4 rfl) rfl
theorem q1327 : (Jvm.Cond.lays "java/lang/IllegalArgumentException" "java/lang/Throwable" "stackTrace" "[Ljava/lang/StackTraceElement;") ∈ lw_all := lw_g (lw_at lw_m6 5 rfl) rfl
theorem q1328 : (Jvm.Cond.lays "java/lang/IllegalArgumentException" "java/lang/Throwable" "suppressedExceptions" "Ljava/util/List;") ∈ lw_all := lw_g (lw_at lw_m6 6 rfl) rfl
theorem q1329 : (Jvm.Cond.lays "java/lang/IllegalArgumentException" "java/lang/Throwable" "detailMessage" "Ljava/lang/String;") ∈ lw_all := lw_g (lw_at lw_m6 7 rfl) rfl
theorem q1330 : (Jvm.Cond.lays "java/lang/IllegalArgumentException" "java/lang/Throwable" "backtrace" "Ljava/lang/Object;") ∈ lw_all := lw_g (lw_at lw_m6 8 rfl) rfl
theorem q1332 : (Jvm.Cond.instanceMethod ({ cls := "java/lang/IllegalArgumentException", name := "<init>", desc := "()V" } : Jvm.MethodName)) ∈ lw_all := lw_g (lw_at lw_m6 10 rfl) rfl
theorem q1333 : (Jvm.Cond.code ({ cls := "java/lang/IllegalArgumentException", name := "<init>", desc := "()V" } : Jvm.MethodName) prog_33_method_1_code (1 : Nat) (Option.none : Option Jvm.ClassFile.FieldType)) ∈ lw_all := lw_g (lw_at lw_m6 11 rfl) rfl
theorem q1334 : (Jvm.Cond.methodLink "java/lang/IllegalArgumentException" (1 : Nat) ({ cls := "java/lang/RuntimeException", name := "<init>", desc := "()V" } : Jvm.MethodName)) ∈ lw_all := lw_g (lw_at lw_m6 12 rfl) rfl
theorem q1335 : (Jvm.Cond.lays "java/lang/IllegalArgumentException" "java/lang/Throwable" "depth" "I") ∈ lw_all := lw_g (lw_at lw_m6 13 rfl) rfl
theorem q1336 : (Jvm.Cond.superclass "java/lang/IllegalArgumentException" "java/lang/RuntimeException") ∈ lw_all := lw_g (lw_at lw_m6 14 rfl) rfl
theorem q1855 : (Jvm.Cond.instanceMethod ({ cls := "java/lang/IllegalArgumentException", name := "<init>", desc := "(Ljava/lang/String;)V" } : Jvm.MethodName)) ∈ lw_all := lw_g (lw_at lw_m8 53 rfl) rfl
theorem q1856 : (Jvm.Cond.code ({ cls := "java/lang/IllegalArgumentException", name := "<init>", desc := "(Ljava/lang/String;)V" } : Jvm.MethodName) prog_33_method_2_code (2 : Nat) (Option.none : Option Jvm.ClassFile.FieldType)) ∈ lw_all := lw_g (lw_at lw_m8 54 rfl) rfl
theorem q1857 : (Jvm.Cond.methodLink "java/lang/IllegalArgumentException" (7 : Nat) ({ cls := "java/lang/RuntimeException", name := "<init>", desc := "(Ljava/lang/String;)V" } : Jvm.MethodName)) ∈ lw_all := lw_g (lw_at lw_m8 55 rfl) rfl
theorem q3475 : (Jvm.Cond.castable "java/lang/IllegalArgumentException" "java/lang/Object") ∈ lw_tbl := lw_at lw_m14 233 rfl
theorem in_J30 : ∀ w ∈ wsJ300, w ∈ lw_all := lw_in wsJ300 [1326, 1327, 1328, 1329, 1330, 1335] (by decide +kernel) (by decide +kernel)

/-! java/lang/IllegalStateException -/
set_option maxRecDepth 100000
def RJ31 : String := "java/lang/IllegalStateException"
def TJ31 : u_T := fun k => match k with
  | 0 => ("java/lang/Throwable", "cause", "Ljava/lang/Throwable;", false)
  | 1 => ("java/lang/Throwable", "stackTrace", "[Ljava/lang/StackTraceElement;", false)
  | 2 => ("java/lang/Throwable", "suppressedExceptions", "Ljava/util/List;", false)
  | 3 => ("java/lang/Throwable", "detailMessage", "Ljava/lang/String;", false)
  | 4 => ("java/lang/Throwable", "backtrace", "Ljava/lang/Object;", false)
  | _ => ("java/lang/Throwable", "depth", "I", false)
def tyJ31 : Nat → FieldType := fun k => match k with
  | 0 => .object "java/lang/Throwable"
  | 1 => .array (.object "java/lang/StackTraceElement")
  | 2 => .object "java/util/List"
  | 3 => .object "java/lang/String"
  | 4 => .object "java/lang/Object"
  | _ => .int
abbrev wsJ310 : List Cond := u_ws RJ31 TJ31 6
theorem nmJ31 : ∀ a, a < 6 → ∀ b, b < 6 → a ≠ b → (TJ31 a).2.1 ≠ (TJ31 b).2.1 := by decide +kernel
theorem tyJ31_ok : ∀ k, k < 6 → parseFieldDescriptor (TJ31 k).2.2.1 = some (tyJ31 k) := by decide +kernel
theorem q162 : (Jvm.Cond.initialized "java/lang/IllegalStateException") ∈ lw_all := lw_g (lw_at lw_m1 40 rfl) rfl
theorem q361 : (Jvm.Cond.selects "java/lang/IllegalStateException" ({ cls := "java/lang/Object", name := "getClass", desc := "()Ljava/lang/Class;" } : Jvm.MethodName) ({ cls := "java/lang/Object", name := "getClass", desc := "()Ljava/lang/Class;" } : Jvm.MethodName)) ∈ lw_all := lw_g (lw_at lw_m1 239 rfl) rfl
theorem q784 : (Jvm.Cond.selects "java/lang/IllegalStateException" ({ cls := "java/lang/Object", name := "equals", desc := "(Ljava/lang/Object;)Z" } : Jvm.MethodName) ({ cls := "java/lang/Object", name := "equals", desc := "(Ljava/lang/Object;)Z" } : Jvm.MethodName)) ∈ lw_all := lw_g (lw_at lw_m3 182 rfl) rfl
theorem q985 : (Jvm.Cond.selects "java/lang/IllegalStateException" ({ cls := "java/lang/Throwable", name := "fillInStackTrace", desc := "()Ljava/lang/Throwable;" } : Jvm.MethodName) ({ cls := "java/lang/Throwable", name := "fillInStackTrace", desc := "()Ljava/lang/Throwable;" } : Jvm.MethodName)) ∈ lw_all := lw_g (lw_at lw_m4 143 rfl) rfl
theorem q2411 : (Jvm.Cond.instantiable "java/lang/IllegalStateException" (6 : Nat)) ∈ lw_all := lw_g (lw_at lw_m10 129 rfl) rfl
theorem q2412 : (Jvm.Cond.castable "java/lang/IllegalStateException" "java/lang/IllegalStateException") ∈ lw_tbl := lw_at lw_m10 130 rfl
theorem q2413 : (Jvm.Cond.selects "java/lang/IllegalStateException" ({ cls := "java/lang/Throwable", name := "fillInStackTrace", desc := "(I)Ljava/lang/Throwable;" } : Jvm.MethodName) ({ cls := "java/lang/Throwable", name := "fillInStackTrace", desc := "(I)Ljava/lang/Throwable;" } : Jvm.MethodName)) ∈ lw_all := lw_g (lw_at lw_m10 131 rfl) rfl
theorem q2414 : (Jvm.Cond.lays "java/lang/IllegalStateException" "java/lang/Throwable" "cause" "Ljava/lang/Throwable;") ∈ lw_all := lw_g (lw_at lw_m10 132 rfl) rfl
theorem q2415 : (Jvm.Cond.lays "java/lang/IllegalStateException" "java/lang/Throwable" "stackTrace" "[Ljava/lang/StackTraceElement;") ∈ lw_all := lw_g (lw_at lw_m10 133 rfl) rfl
theorem q2416 : (Jvm.Cond.lays "java/lang/IllegalStateException" "java/lang/Throwable" "suppressedExceptions" "Ljava/util/List;") ∈ lw_all := lw_g (lw_at lw_m10 134 rfl) rfl
theorem q2417 : (Jvm.Cond.lays "java/lang/IllegalStateException" "java/lang/Throwable" "detailMessage" "Ljava/lang/String;") ∈ lw_all := lw_g (lw_at lw_m10 135 rfl) rfl
theorem q2418 : (Jvm.Cond.lays "java/lang/IllegalStateException" "java/lang/Throwable" "backtrace" "Ljava/lang/Object;") ∈ lw_all := lw_g (lw_at lw_m10 136 rfl) rfl
theorem q2420 : (Jvm.Cond.instanceMethod ({ cls := "java/lang/IllegalStateException", name := "<init>", desc := "()V" } : Jvm.MethodName)) ∈ lw_all := lw_g (lw_at lw_m10 138 rfl) rfl
theorem q2421 : (Jvm.Cond.code ({ cls := "java/lang/IllegalStateException", name := "<init>", desc := "()V" } : Jvm.MethodName) prog_34_method_1_code (1 : Nat) (Option.none : Option Jvm.ClassFile.FieldType)) ∈ lw_all := lw_g (lw_at lw_m10 139 rfl) rfl
theorem q2422 : (Jvm.Cond.methodLink "java/lang/IllegalStateException" (1 : Nat) ({ cls := "java/lang/RuntimeException", name := "<init>", desc := "()V" } : Jvm.MethodName)) ∈ lw_all := lw_g (lw_at lw_m10 140 rfl) rfl
theorem q2423 : (Jvm.Cond.lays "java/lang/IllegalStateException" "java/lang/Throwable" "depth" "I") ∈ lw_all := lw_g (lw_at lw_m10 141 rfl) rfl
theorem q2424 : (Jvm.Cond.superclass "java/lang/IllegalStateException" "java/lang/RuntimeException") ∈ lw_all := lw_g (lw_at lw_m10 142 rfl) rfl
theorem q3476 : (Jvm.Cond.castable "java/lang/IllegalStateException" "java/lang/Object") ∈ lw_tbl := lw_at lw_m14 234 rfl
theorem in_J31 : ∀ w ∈ wsJ310, w ∈ lw_all := lw_in wsJ310 [2414, 2415, 2416, 2417, 2418, 2423] (by decide +kernel) (by decide +kernel)

/-! java/lang/IndexOutOfBoundsException -/
set_option maxRecDepth 100000
def RJ32 : String := "java/lang/IndexOutOfBoundsException"
def TJ32 : u_T := fun k => match k with
  | 0 => ("java/lang/Throwable", "cause", "Ljava/lang/Throwable;", false)
  | 1 => ("java/lang/Throwable", "stackTrace", "[Ljava/lang/StackTraceElement;", false)
  | 2 => ("java/lang/Throwable", "suppressedExceptions", "Ljava/util/List;", false)
  | 3 => ("java/lang/Throwable", "detailMessage", "Ljava/lang/String;", false)
  | 4 => ("java/lang/Throwable", "backtrace", "Ljava/lang/Object;", false)
  | _ => ("java/lang/Throwable", "depth", "I", false)
def tyJ32 : Nat → FieldType := fun k => match k with
  | 0 => .object "java/lang/Throwable"
  | 1 => .array (.object "java/lang/StackTraceElement")
  | 2 => .object "java/util/List"
  | 3 => .object "java/lang/String"
  | 4 => .object "java/lang/Object"
  | _ => .int
abbrev wsJ320 : List Cond := u_ws RJ32 TJ32 6
theorem nmJ32 : ∀ a, a < 6 → ∀ b, b < 6 → a ≠ b → (TJ32 a).2.1 ≠ (TJ32 b).2.1 := by decide +kernel
theorem tyJ32_ok : ∀ k, k < 6 → parseFieldDescriptor (TJ32 k).2.2.1 = some (tyJ32 k) := by decide +kernel
theorem q163 : (Jvm.Cond.initialized "java/lang/IndexOutOfBoundsException") ∈ lw_all := lw_g (lw_at lw_m1 41 rfl) rfl
theorem q362 : (Jvm.Cond.selects "java/lang/IndexOutOfBoundsException" ({ cls := "java/lang/Object", name := "getClass", desc := "()Ljava/lang/Class;" } : Jvm.MethodName) ({ cls := "java/lang/Object", name := "getClass", desc := "()Ljava/lang/Class;" } : Jvm.MethodName)) ∈ lw_all := lw_g (lw_at lw_m2 0 rfl) rfl
theorem q785 : (Jvm.Cond.selects "java/lang/IndexOutOfBoundsException" ({ cls := "java/lang/Object", name := "equals", desc := "(Ljava/lang/Object;)Z" } : Jvm.MethodName) ({ cls := "java/lang/Object", name := "equals", desc := "(Ljava/lang/Object;)Z" } : Jvm.MethodName)) ∈ lw_all := lw_g (lw_at lw_m3 183 rfl) rfl
theorem q986 : (Jvm.Cond.selects "java/lang/IndexOutOfBoundsException" ({ cls := "java/lang/Throwable", name := "fillInStackTrace", desc := "()Ljava/lang/Throwable;" } : Jvm.MethodName) ({ cls := "java/lang/Throwable", name := "fillInStackTrace", desc := "()Ljava/lang/Throwable;" } : Jvm.MethodName)) ∈ lw_all := lw_g (lw_at lw_m4 144 rfl) rfl
theorem q1667 : (Jvm.Cond.instantiable "java/lang/IndexOutOfBoundsException" (6 : Nat)) ∈ lw_all := lw_g (lw_at lw_m7 105 rfl) rfl
theorem q1668 : (Jvm.Cond.castable "java/lang/IndexOutOfBoundsException" "java/lang/IndexOutOfBoundsException") ∈ lw_tbl := lw_at lw_m7 106 rfl
theorem q1669 : (Jvm.Cond.selects "java/lang/IndexOutOfBoundsException" ({ cls := "java/lang/Throwable", name := "fillInStackTrace", desc := "(I)Ljava/lang/Throwable;" } : Jvm.MethodName) ({ cls := "java/lang/Throwable", name := "fillInStackTrace", desc := "(I)Ljava/lang/Throwable;" } : Jvm.MethodName)) ∈ lw_all := lw_g (lw_at lw_m7 107 rfl) rfl
theorem q1670 : (Jvm.Cond.lays "java/lang/IndexOutOfBoundsException" "java/lang/Throwable" "cause" "Ljava/lang/Throwable;") ∈ lw_all := lw_g (lw_at lw_m7 108 rfl) rfl
theorem q1671 : (Jvm.Cond.lays "java/lang/IndexOutOfBoundsException" "java/lang/Throwable" "stackTrace" "[Ljava/lang/StackTraceElement;") ∈ lw_all := lw_g (lw_at lw_m7 109 rfl) rfl
theorem q1672 : (Jvm.Cond.lays "java/lang/IndexOutOfBoundsException" "java/lang/Throwable" "suppressedExceptions" "Ljava/util/List;") ∈ lw_all := lw_g (lw_at lw_m7 110 rfl) rfl
theorem q1673 : (Jvm.Cond.lays "java/lang/IndexOutOfBoundsException" "java/lang/Throwable" "detailMessage" "Ljava/lang/String;") ∈ lw_all := lw_g (lw_at lw_m7 111 rfl) rfl
theorem q1674 : (Jvm.Cond.lays "java/lang/IndexOutOfBoundsException" "java/lang/Throwable" "backtrace" "Ljava/lang/Object;") ∈ lw_all := lw_g (lw_at lw_m7 112 rfl) rfl
theorem q1888 : (Jvm.Cond.instanceMethod ({ cls := "java/lang/IndexOutOfBoundsException", name := "<init>", desc := "(Ljava/lang/String;)V" } : Jvm.MethodName)) ∈ lw_all := lw_g (lw_at lw_m8 86 rfl) rfl
theorem q1889 : (Jvm.Cond.code ({ cls := "java/lang/IndexOutOfBoundsException", name := "<init>", desc := "(Ljava/lang/String;)V" } : Jvm.MethodName) prog_35_method_2_code (2 : Nat) (Option.none : Option Jvm.ClassFile.FieldType)) ∈ lw_all := lw_g (lw_at lw_m8 87 rfl) rfl
theorem q1890 : (Jvm.Cond.methodLink "java/lang/IndexOutOfBoundsException" (7 : Nat) ({ cls := "java/lang/RuntimeException", name := "<init>", desc := "(Ljava/lang/String;)V" } : Jvm.MethodName)) ∈ lw_all := lw_g (lw_at lw_m8 88 rfl) rfl
theorem q1891 : (Jvm.Cond.lays "java/lang/IndexOutOfBoundsException" "java/lang/Throwable" "depth" "I") ∈ lw_all := lw_g (lw_at lw_m8 89 rfl) rfl
theorem q1892 : (Jvm.Cond.superclass "java/lang/IndexOutOfBoundsException" "java/lang/RuntimeException") ∈ lw_all := lw_g (lw_at lw_m8 90 rfl) rfl
theorem q2441 : (Jvm.Cond.declares ({ cls := "java/lang/IndexOutOfBoundsException", name := "<init>", desc := "()V" } : Jvm.MethodName)) ∈ lw_tbl := lw_at lw_m10 159 rfl
theorem q2442 : (Jvm.Cond.declares ({ cls := "java/lang/IndexOutOfBoundsException", name := "<init>", desc := "(Ljava/lang/String;)V" } : Jvm.MethodName)) ∈ lw_tbl := lw_at lw_m10 160 rfl
theorem q2456 : (Jvm.Cond.instanceMethod ({ cls := "java/lang/IndexOutOfBoundsException", name := "<init>", desc := "()V" } : Jvm.MethodName)) ∈ lw_all := lw_g (lw_at lw_m10 174 rfl) rfl
theorem q2457 : (Jvm.Cond.code ({ cls := "java/lang/IndexOutOfBoundsException", name := "<init>", desc := "()V" } : Jvm.MethodName) prog_35_method_1_code (1 : Nat) (Option.none : Option Jvm.ClassFile.FieldType)) ∈ lw_all := lw_g (lw_at lw_m10 175 rfl) rfl
theorem q2458 : (Jvm.Cond.methodLink "java/lang/IndexOutOfBoundsException" (1 : Nat) ({ cls := "java/lang/RuntimeException", name := "<init>", desc := "()V" } : Jvm.MethodName)) ∈ lw_all := lw_g (lw_at lw_m10 176 rfl) rfl
theorem q3478 : (Jvm.Cond.castable "java/lang/IndexOutOfBoundsException" "java/lang/Object") ∈ lw_tbl := lw_at lw_m14 236 rfl
theorem in_J32 : ∀ w ∈ wsJ320, w ∈ lw_all := lw_in wsJ320 [1670, 1671, 1672, 1673, 1674, 1891] (by decide +kernel) (by decide +kernel)

/-! java/lang/ArrayIndexOutOfBoundsException -/
set_option maxRecDepth 100000
def RJ33 : String := "java/lang/ArrayIndexOutOfBoundsException"
def TJ33 : u_T := fun k => match k with
  | 0 => ("java/lang/Throwable", "backtrace", "Ljava/lang/Object;", false)
  | 1 => ("java/lang/Throwable", "detailMessage", "Ljava/lang/String;", false)
  | 2 => ("java/lang/Throwable", "cause", "Ljava/lang/Throwable;", false)
  | 3 => ("java/lang/Throwable", "stackTrace", "[Ljava/lang/StackTraceElement;", false)
  | 4 => ("java/lang/Throwable", "depth", "I", false)
  | _ => ("java/lang/Throwable", "suppressedExceptions", "Ljava/util/List;", false)
def tyJ33 : Nat → FieldType := fun k => match k with
  | 0 => .object "java/lang/Object"
  | 1 => .object "java/lang/String"
  | 2 => .object "java/lang/Throwable"
  | 3 => .array (.object "java/lang/StackTraceElement")
  | 4 => .int
  | _ => .object "java/util/List"
abbrev wsJ330 : List Cond := u_ws RJ33 TJ33 6
theorem nmJ33 : ∀ a, a < 6 → ∀ b, b < 6 → a ≠ b → (TJ33 a).2.1 ≠ (TJ33 b).2.1 := by decide +kernel
theorem tyJ33_ok : ∀ k, k < 6 → parseFieldDescriptor (TJ33 k).2.2.1 = some (tyJ33 k) := by decide +kernel
theorem q164 : (Jvm.Cond.initialized "java/lang/ArrayIndexOutOfBoundsException") ∈ lw_all := lw_g (lw_at lw_m1 42 rfl) rfl
theorem q359 : (Jvm.Cond.selects "java/lang/ArrayIndexOutOfBoundsException" ({ cls := "java/lang/Object", name := "getClass", desc := "()Ljava/lang/Class;" } : Jvm.MethodName) ({ cls := "java/lang/Object", name := "getClass", desc := "()Ljava/lang/Class;" } : Jvm.MethodName)) ∈ lw_all := lw_g (lw_at lw_m1 237 rfl) rfl
theorem q782 : (Jvm.Cond.selects "java/lang/ArrayIndexOutOfBoundsException" ({ cls := "java/lang/Object", name := "equals", desc := "(Ljava/lang/Object;)Z" } : Jvm.MethodName) ({ cls := "java/lang/Object", name := "equals", desc := "(Ljava/lang/Object;)Z" } : Jvm.MethodName)) ∈ lw_all := lw_g (lw_at lw_m3 180 rfl) rfl
theorem q983 : (Jvm.Cond.selects "java/lang/ArrayIndexOutOfBoundsException" ({ cls := "java/lang/Throwable", name := "fillInStackTrace", desc := "()Ljava/lang/Throwable;" } : Jvm.MethodName) ({ cls := "java/lang/Throwable", name := "fillInStackTrace", desc := "()Ljava/lang/Throwable;" } : Jvm.MethodName)) ∈ lw_all := lw_g (lw_at lw_m4 141 rfl) rfl
theorem q2429 : (Jvm.Cond.instantiable "java/lang/ArrayIndexOutOfBoundsException" (6 : Nat)) ∈ lw_all := lw_g (lw_at lw_m10 147 rfl) rfl
theorem q2430 : (Jvm.Cond.instanceMethod ({ cls := "java/lang/ArrayIndexOutOfBoundsException", name := "<init>", desc := "(Ljava/lang/String;)V" } : Jvm.MethodName)) ∈ lw_all := lw_g (lw_at lw_m10 148 rfl) rfl
theorem q2431 : (Jvm.Cond.code ({ cls := "java/lang/ArrayIndexOutOfBoundsException", name := "<init>", desc := "(Ljava/lang/String;)V" } : Jvm.MethodName) prog_26_method_2_code (2 : Nat) (Option.none : Option Jvm.ClassFile.FieldType)) ∈ lw_all := lw_g (lw_at lw_m10 149 rfl) rfl
theorem q2432 : (Jvm.Cond.methodLink "java/lang/ArrayIndexOutOfBoundsException" (7 : Nat) ({ cls := "java/lang/IndexOutOfBoundsException", name := "<init>", desc := "(Ljava/lang/String;)V" } : Jvm.MethodName)) ∈ lw_all := lw_g (lw_at lw_m10 150 rfl) rfl
theorem q2433 : (Jvm.Cond.lays "java/lang/ArrayIndexOutOfBoundsException" "java/lang/Throwable" "backtrace" "Ljava/lang/Object;") ∈ lw_all := lw_g (lw_at lw_m10 151 rfl) rfl
theorem q2434 : (Jvm.Cond.lays "java/lang/ArrayIndexOutOfBoundsException" "java/lang/Throwable" "detailMessage" "Ljava/lang/String;") ∈ lw_all := lw_g (lw_at lw_m10 152 rfl) rfl
theorem q2435 : (Jvm.Cond.lays "java/lang/ArrayIndexOutOfBoundsException" "java/lang/Throwable" "cause" "Ljava/lang/Throwable;") ∈ lw_all := lw_g (lw_at lw_m10 153 rfl) rfl
theorem q2436 : (Jvm.Cond.lays "java/lang/ArrayIndexOutOfBoundsException" "java/lang/Throwable" "stackTrace" "[Ljava/lang/StackTraceElement;") ∈ lw_all := lw_g (lw_at lw_m10 154 rfl) rfl
theorem q2437 : (Jvm.Cond.lays "java/lang/ArrayIndexOutOfBoundsException" "java/lang/Throwable" "depth" "I") ∈ lw_all := lw_g (lw_at lw_m10 155 rfl) rfl
theorem q2438 : (Jvm.Cond.lays "java/lang/ArrayIndexOutOfBoundsException" "java/lang/Throwable" "suppressedExceptions" "Ljava/util/List;") ∈ lw_all := lw_g (lw_at lw_m10 156 rfl) rfl
theorem q2439 : (Jvm.Cond.superclass "java/lang/ArrayIndexOutOfBoundsException" "java/lang/IndexOutOfBoundsException") ∈ lw_all := lw_g (lw_at lw_m10 157 rfl) rfl
theorem q2440 : (Jvm.Cond.castable "java/lang/ArrayIndexOutOfBoundsException" "java/lang/ArrayIndexOutOfBoundsException") ∈ lw_tbl := lw_at lw_m10 158 rfl
theorem q2443 : (Jvm.Cond.selects "java/lang/ArrayIndexOutOfBoundsException" ({ cls := "java/lang/Throwable", name := "fillInStackTrace", desc := "(I)Ljava/lang/Throwable;" } : Jvm.MethodName) ({ cls := "java/lang/Throwable", name := "fillInStackTrace", desc := "(I)Ljava/lang/Throwable;" } : Jvm.MethodName)) ∈ lw_all := lw_g (lw_at lw_m10 161 rfl) rfl
theorem q3457 : (Jvm.Cond.castable "java/lang/ArrayIndexOutOfBoundsException" "java/lang/IndexOutOfBoundsException") ∈ lw_tbl := lw_at lw_m14 215 rfl
theorem q3477 : (Jvm.Cond.castable "java/lang/ArrayIndexOutOfBoundsException" "java/lang/Object") ∈ lw_tbl := lw_at lw_m14 235 rfl
theorem in_J33 : ∀ w ∈ wsJ330, w ∈ lw_all := lw_in wsJ330 [2433, 2434, 2435, 2436, 2437, 2438] (by decide +kernel) (by decide +kernel)

/-! java/lang/Character -/
set_option maxRecDepth 100000
def RJ34 : String := "java/lang/Character"
theorem q166 : (Jvm.Cond.initialized "java/lang/Character") ∈ lw_all := lw_g (lw_at lw_m1 44 rfl) rfl
theorem q2549 : (Jvm.Cond.static ({ cls := "java/lang/Character", name := "isValidCodePoint", desc := "(I)Z" } : Jvm.MethodName)) ∈ lw_all := lw_g (lw_at lw_m11 27 rfl) rfl
theorem q2550 : (Jvm.Cond.code ({ cls := "java/lang/Character", name := "isValidCodePoint", desc := "(I)Z" } : Jvm.MethodName) prog_28_method_11_code (2 : Nat) (Option.some Jvm.ClassFile.FieldType.boolean)) ∈ lw_all := lw_g (lw_at lw_m11 28 rfl) rfl
theorem q2552 : (Jvm.Cond.static ({ cls := "java/lang/Character", name := "highSurrogate", desc := "(I)C" } : Jvm.MethodName)) ∈ lw_all := lw_g (lw_at lw_m11 30 rfl) rfl
theorem q2553 : (Jvm.Cond.code ({ cls := "java/lang/Character", name := "highSurrogate", desc := "(I)C" } : Jvm.MethodName) prog_28_method_28_code (1 : Nat) (Option.some Jvm.ClassFile.FieldType.char)) ∈ lw_all := lw_g (lw_at lw_m11 31 rfl) rfl
theorem q2554 : (Jvm.Cond.constant "java/lang/Character" (110 : Nat) (55232 : Int32)) ∈ lw_all := lw_g (lw_at lw_m11 32 rfl) rfl
theorem q2556 : (Jvm.Cond.static ({ cls := "java/lang/Character", name := "lowSurrogate", desc := "(I)C" } : Jvm.MethodName)) ∈ lw_all := lw_g (lw_at lw_m11 34 rfl) rfl
theorem q2557 : (Jvm.Cond.code ({ cls := "java/lang/Character", name := "lowSurrogate", desc := "(I)C" } : Jvm.MethodName) prog_28_method_29_code (1 : Nat) (Option.some Jvm.ClassFile.FieldType.char)) ∈ lw_all := lw_g (lw_at lw_m11 35 rfl) rfl
theorem q2558 : (Jvm.Cond.constant "java/lang/Character" (76 : Nat) (56320 : Int32)) ∈ lw_all := lw_g (lw_at lw_m11 36 rfl) rfl

/-! java/util/AbstractQueue -/
set_option maxRecDepth 100000
def RJ35 : String := "java/util/AbstractQueue"
abbrev cJ35_init : ByteArray := prog_54_method_1_code
def yJ35_init : MethodName := ⟨RJ35, "<init>", "()V"⟩
theorem dJ35_init_0 : decode cJ35_init 0 = .ok (.aload_n 0, 1) := by decide +kernel
theorem dJ35_init_1 : decode cJ35_init 1 = .ok (.invokespecial 1, 3) := by decide +kernel
theorem dJ35_init_4 : decode cJ35_init 4 = .ok (.return_, 1) := by decide +kernel
theorem q170 : (Jvm.Cond.initialized "java/util/AbstractQueue") ∈ lw_all := lw_g (lw_at lw_m1 48 rfl) rfl
theorem q1319 : (Jvm.Cond.instanceMethod ({ cls := "java/util/AbstractQueue", name := "<init>", desc := "()V" } : Jvm.MethodName)) ∈ lw_all := lw_g (lw_at lw_m5 237 rfl) rfl
theorem q1320 : (Jvm.Cond.code ({ cls := "java/util/AbstractQueue", name := "<init>", desc := "()V" } : Jvm.MethodName) prog_54_method_1_code (1 : Nat) (Option.none : Option Jvm.ClassFile.FieldType)) ∈ lw_all := lw_g (lw_at lw_m5 238 rfl) rfl
theorem q1321 : (Jvm.Cond.methodLink "java/util/AbstractQueue" (1 : Nat) ({ cls := "java/util/AbstractCollection", name := "<init>", desc := "()V" } : Jvm.MethodName)) ∈ lw_all := lw_g (lw_at lw_m5 239 rfl) rfl

/-! java/util/PriorityQueue -/
set_option maxRecDepth 100000
def RJ36 : String := "java/util/PriorityQueue"
def TJ36 : u_T := fun k => match k with
  | 0 => ("java/util/PriorityQueue", "queue", "[Ljava/lang/Object;", false)
  | 1 => ("java/util/PriorityQueue", "size", "I", false)
  | 2 => ("java/util/PriorityQueue", "comparator", "Ljava/util/Comparator;", true)
  | _ => ("java/util/PriorityQueue", "modCount", "I", false)
def tyJ36 : Nat → FieldType := fun k => match k with
  | 0 => .array (.object "java/lang/Object")
  | 1 => .int
  | 2 => .object "java/util/Comparator"
  | _ => .int
abbrev wsJ360 : List Cond := u_ws RJ36 TJ36 4
theorem nmJ36 : ∀ a, a < 4 → ∀ b, b < 4 → a ≠ b → (TJ36 a).2.1 ≠ (TJ36 b).2.1 := by decide +kernel
theorem tyJ36_ok : ∀ k, k < 4 → parseFieldDescriptor (TJ36 k).2.2.1 = some (tyJ36 k) := by decide +kernel
abbrev cJ36_init : ByteArray := prog_71_method_4_code
def yJ36_init : MethodName := ⟨RJ36, "<init>", "(ILjava/util/Comparator;)V"⟩
def dkwJ36_init_1 : List UInt8 := [181, 0, 17, 42, 44, 181, 0, 21, 177]
abbrev dktJ36_init_1 : List UInt8 := dkwJ36_init_1 ++ []
def dkwJ36_init_0 : List UInt8 := [42, 183, 0, 7, 27, 4, 162, 0, 11, 187, 0, 12, 89, 183, 0, 14, 191, 42, 27, 189, 0, 15]
abbrev dktJ36_init_0 : List UInt8 := dkwJ36_init_0 ++ dktJ36_init_1
theorem dksJ36_init_0 : cJ36_init.data.toList.drop 0 = dktJ36_init_0 := by decide +kernel
theorem dksJ36_init_1 : cJ36_init.data.toList.drop 22 = dktJ36_init_1 := dk_seg dksJ36_init_0 22 rfl rfl
theorem dJ36_init_0 : decode cJ36_init 0 = .ok (.aload_n 0, 1) := dk_42 (dk_at dksJ36_init_0 0 rfl rfl)
theorem dJ36_init_1 : decode cJ36_init 1 = .ok (.invokespecial 7, 3) := dk_183 0 7 (dk_at dksJ36_init_0 1 rfl rfl)
theorem dJ36_init_4 : decode cJ36_init 4 = .ok (.iload_n 1, 1) := dk_27 (dk_at dksJ36_init_0 4 rfl rfl)
theorem dJ36_init_5 : decode cJ36_init 5 = .ok (.iconst 1, 1) := dk_4 (dk_at dksJ36_init_0 5 rfl rfl)
theorem dJ36_init_6 : decode cJ36_init 6 = .ok (.if_icmp .ge 11, 3) := dk_162 0 11 (dk_at dksJ36_init_0 6 rfl rfl)
theorem dJ36_init_9 : decode cJ36_init 9 = .ok (.new 12, 3) := dk_187 0 12 (dk_at dksJ36_init_0 9 rfl rfl)
theorem dJ36_init_12 : decode cJ36_init 12 = .ok (.dup, 1) := dk_89 (dk_at dksJ36_init_0 12 rfl rfl)
theorem dJ36_init_13 : decode cJ36_init 13 = .ok (.invokespecial 14, 3) := dk_183 0 14 (dk_at dksJ36_init_0 13 rfl rfl)
theorem dJ36_init_16 : decode cJ36_init 16 = .ok (.athrow, 1) := dk_191 (dk_at dksJ36_init_0 16 rfl rfl)
theorem dJ36_init_17 : decode cJ36_init 17 = .ok (.aload_n 0, 1) := dk_42 (dk_at dksJ36_init_0 17 rfl rfl)
theorem dJ36_init_18 : decode cJ36_init 18 = .ok (.iload_n 1, 1) := dk_27 (dk_at dksJ36_init_0 18 rfl rfl)
theorem dJ36_init_19 : decode cJ36_init 19 = .ok (.anewarray 15, 3) := dk_189 0 15 (dk_at dksJ36_init_0 19 rfl rfl)
theorem dJ36_init_22 : decode cJ36_init 22 = .ok (.putfield 17, 3) := dk_181 0 17 (dk_at dksJ36_init_1 0 rfl rfl)
theorem dJ36_init_25 : decode cJ36_init 25 = .ok (.aload_n 0, 1) := dk_42 (dk_at dksJ36_init_1 3 rfl rfl)
theorem dJ36_init_26 : decode cJ36_init 26 = .ok (.aload_n 2, 1) := dk_44 (dk_at dksJ36_init_1 4 rfl rfl)
theorem dJ36_init_27 : decode cJ36_init 27 = .ok (.putfield 21, 3) := dk_181 0 21 (dk_at dksJ36_init_1 5 rfl rfl)
theorem dJ36_init_30 : decode cJ36_init 30 = .ok (.return_, 1) := dk_177 (dk_at dksJ36_init_1 8 rfl rfl)
abbrev cJ36_size : ByteArray := prog_71_method_23_code
def yJ36_size : MethodName := ⟨RJ36, "size", "()I"⟩
theorem dJ36_size_0 : decode cJ36_size 0 = .ok (.aload_n 0, 1) := by decide +kernel
theorem dJ36_size_1 : decode cJ36_size 1 = .ok (.getfield 58, 3) := by decide +kernel
theorem dJ36_size_4 : decode cJ36_size 4 = .ok (.ireturn, 1) := by decide +kernel
abbrev cJ36_add : ByteArray := prog_71_method_13_code
def yJ36_add : MethodName := ⟨RJ36, "add", "(Ljava/lang/Object;)Z"⟩
def dkwJ36_add_0 : List UInt8 := [42, 43, 182, 0, 89, 172]
abbrev dktJ36_add_0 : List UInt8 := dkwJ36_add_0 ++ []
theorem dksJ36_add_0 : cJ36_add.data.toList.drop 0 = dktJ36_add_0 := by decide +kernel
theorem dJ36_add_0 : decode cJ36_add 0 = .ok (.aload_n 0, 1) := dk_42 (dk_at dksJ36_add_0 0 rfl rfl)
theorem dJ36_add_1 : decode cJ36_add 1 = .ok (.aload_n 1, 1) := dk_43 (dk_at dksJ36_add_0 1 rfl rfl)
theorem dJ36_add_2 : decode cJ36_add 2 = .ok (.invokevirtual 89, 3) := dk_182 0 89 (dk_at dksJ36_add_0 2 rfl rfl)
theorem dJ36_add_5 : decode cJ36_add 5 = .ok (.ireturn, 1) := dk_172 (dk_at dksJ36_add_0 5 rfl rfl)
abbrev cJ36_offer : ByteArray := prog_71_method_14_code
def yJ36_offer : MethodName := ⟨RJ36, "offer", "(Ljava/lang/Object;)Z"⟩
def dkwJ36_offer_2 : List UInt8 := [182, 0, 100, 42, 28, 4, 96, 181, 0, 58, 4, 172]
abbrev dktJ36_offer_2 : List UInt8 := dkwJ36_offer_2 ++ []
def dkwJ36_offer_1 : List UInt8 := [180, 0, 58, 61, 28, 42, 180, 0, 17, 190, 161, 0, 10, 42, 28, 4, 96, 182, 0, 96, 42, 28, 43]
abbrev dktJ36_offer_1 : List UInt8 := dkwJ36_offer_1 ++ dktJ36_offer_2
def dkwJ36_offer_0 : List UInt8 := [43, 199, 0, 11, 187, 0, 74, 89, 183, 0, 76, 191, 42, 89, 180, 0, 93, 4, 96, 181, 0, 93, 42]
abbrev dktJ36_offer_0 : List UInt8 := dkwJ36_offer_0 ++ dktJ36_offer_1
theorem dksJ36_offer_0 : cJ36_offer.data.toList.drop 0 = dktJ36_offer_0 := by decide +kernel
theorem dksJ36_offer_1 : cJ36_offer.data.toList.drop 23 = dktJ36_offer_1 := dk_seg dksJ36_offer_0 23 rfl rfl
theorem dksJ36_offer_2 : cJ36_offer.data.toList.drop 46 = dktJ36_offer_2 := dk_seg dksJ36_offer_1 23 rfl rfl
theorem dJ36_offer_0 : decode cJ36_offer 0 = .ok (.aload_n 1, 1) := dk_43 (dk_at dksJ36_offer_0 0 rfl rfl)
theorem dJ36_offer_1 : decode cJ36_offer 1 = .ok (.ifnonnull 11, 3) := dk_199 0 11 (dk_at dksJ36_offer_0 1 rfl rfl)
theorem dJ36_offer_4 : decode cJ36_offer 4 = .ok (.new 74, 3) := dk_187 0 74 (dk_at dksJ36_offer_0 4 rfl rfl)
theorem dJ36_offer_7 : decode cJ36_offer 7 = .ok (.dup, 1) := dk_89 (dk_at dksJ36_offer_0 7 rfl rfl)
theorem dJ36_offer_8 : decode cJ36_offer 8 = .ok (.invokespecial 76, 3) := dk_183 0 76 (dk_at dksJ36_offer_0 8 rfl rfl)
theorem dJ36_offer_11 : decode cJ36_offer 11 = .ok (.athrow, 1) := dk_191 (dk_at dksJ36_offer_0 11 rfl rfl)
theorem dJ36_offer_12 : decode cJ36_offer 12 = .ok (.aload_n 0, 1) := dk_42 (dk_at dksJ36_offer_0 12 rfl rfl)
theorem dJ36_offer_13 : decode cJ36_offer 13 = .ok (.dup, 1) := dk_89 (dk_at dksJ36_offer_0 13 rfl rfl)
theorem dJ36_offer_14 : decode cJ36_offer 14 = .ok (.getfield 93, 3) := dk_180 0 93 (dk_at dksJ36_offer_0 14 rfl rfl)
theorem dJ36_offer_17 : decode cJ36_offer 17 = .ok (.iconst 1, 1) := dk_4 (dk_at dksJ36_offer_0 17 rfl rfl)
theorem dJ36_offer_18 : decode cJ36_offer 18 = .ok (.iadd, 1) := dk_96 (dk_at dksJ36_offer_0 18 rfl rfl)
theorem dJ36_offer_19 : decode cJ36_offer 19 = .ok (.putfield 93, 3) := dk_181 0 93 (dk_at dksJ36_offer_0 19 rfl rfl)
theorem dJ36_offer_22 : decode cJ36_offer 22 = .ok (.aload_n 0, 1) := dk_42 (dk_at dksJ36_offer_0 22 rfl rfl)
theorem dJ36_offer_23 : decode cJ36_offer 23 = .ok (.getfield 58, 3) := dk_180 0 58 (dk_at dksJ36_offer_1 0 rfl rfl)
theorem dJ36_offer_26 : decode cJ36_offer 26 = .ok (.istore_n 2, 1) := dk_61 (dk_at dksJ36_offer_1 3 rfl rfl)
theorem dJ36_offer_27 : decode cJ36_offer 27 = .ok (.iload_n 2, 1) := dk_28 (dk_at dksJ36_offer_1 4 rfl rfl)
theorem dJ36_offer_28 : decode cJ36_offer 28 = .ok (.aload_n 0, 1) := dk_42 (dk_at dksJ36_offer_1 5 rfl rfl)
theorem dJ36_offer_29 : decode cJ36_offer 29 = .ok (.getfield 17, 3) := dk_180 0 17 (dk_at dksJ36_offer_1 6 rfl rfl)
theorem dJ36_offer_32 : decode cJ36_offer 32 = .ok (.arraylength, 1) := dk_190 (dk_at dksJ36_offer_1 9 rfl rfl)
theorem dJ36_offer_33 : decode cJ36_offer 33 = .ok (.if_icmp .lt 10, 3) := dk_161 0 10 (dk_at dksJ36_offer_1 10 rfl rfl)
theorem dJ36_offer_36 : decode cJ36_offer 36 = .ok (.aload_n 0, 1) := dk_42 (dk_at dksJ36_offer_1 13 rfl rfl)
theorem dJ36_offer_37 : decode cJ36_offer 37 = .ok (.iload_n 2, 1) := dk_28 (dk_at dksJ36_offer_1 14 rfl rfl)
theorem dJ36_offer_38 : decode cJ36_offer 38 = .ok (.iconst 1, 1) := dk_4 (dk_at dksJ36_offer_1 15 rfl rfl)
theorem dJ36_offer_39 : decode cJ36_offer 39 = .ok (.iadd, 1) := dk_96 (dk_at dksJ36_offer_1 16 rfl rfl)
theorem dJ36_offer_40 : decode cJ36_offer 40 = .ok (.invokevirtual 96, 3) := dk_182 0 96 (dk_at dksJ36_offer_1 17 rfl rfl)
theorem dJ36_offer_43 : decode cJ36_offer 43 = .ok (.aload_n 0, 1) := dk_42 (dk_at dksJ36_offer_1 20 rfl rfl)
theorem dJ36_offer_44 : decode cJ36_offer 44 = .ok (.iload_n 2, 1) := dk_28 (dk_at dksJ36_offer_1 21 rfl rfl)
theorem dJ36_offer_45 : decode cJ36_offer 45 = .ok (.aload_n 1, 1) := dk_43 (dk_at dksJ36_offer_1 22 rfl rfl)
theorem dJ36_offer_46 : decode cJ36_offer 46 = .ok (.invokevirtual 100, 3) := dk_182 0 100 (dk_at dksJ36_offer_2 0 rfl rfl)
theorem dJ36_offer_49 : decode cJ36_offer 49 = .ok (.aload_n 0, 1) := dk_42 (dk_at dksJ36_offer_2 3 rfl rfl)
theorem dJ36_offer_50 : decode cJ36_offer 50 = .ok (.iload_n 2, 1) := dk_28 (dk_at dksJ36_offer_2 4 rfl rfl)
theorem dJ36_offer_51 : decode cJ36_offer 51 = .ok (.iconst 1, 1) := dk_4 (dk_at dksJ36_offer_2 5 rfl rfl)
theorem dJ36_offer_52 : decode cJ36_offer 52 = .ok (.iadd, 1) := dk_96 (dk_at dksJ36_offer_2 6 rfl rfl)
theorem dJ36_offer_53 : decode cJ36_offer 53 = .ok (.putfield 58, 3) := dk_181 0 58 (dk_at dksJ36_offer_2 7 rfl rfl)
theorem dJ36_offer_56 : decode cJ36_offer 56 = .ok (.iconst 1, 1) := dk_4 (dk_at dksJ36_offer_2 10 rfl rfl)
theorem dJ36_offer_57 : decode cJ36_offer 57 = .ok (.ireturn, 1) := dk_172 (dk_at dksJ36_offer_2 11 rfl rfl)
abbrev cJ36_grow : ByteArray := prog_71_method_12_code
def yJ36_grow : MethodName := ⟨RJ36, "grow", "(I)V"⟩
def dkwJ36_grow_1 : List UInt8 := [122, 184, 0, 80, 62, 42, 42, 180, 0, 17, 29, 184, 0, 86, 181, 0, 17, 177]
abbrev dktJ36_grow_1 : List UInt8 := dkwJ36_grow_1 ++ []
def dkwJ36_grow_0 : List UInt8 := [42, 180, 0, 17, 190, 61, 28, 27, 28, 100, 28, 16, 64, 162, 0, 9, 28, 5, 96, 167, 0, 6, 28, 4]
abbrev dktJ36_grow_0 : List UInt8 := dkwJ36_grow_0 ++ dktJ36_grow_1
theorem dksJ36_grow_0 : cJ36_grow.data.toList.drop 0 = dktJ36_grow_0 := by decide +kernel
theorem dksJ36_grow_1 : cJ36_grow.data.toList.drop 24 = dktJ36_grow_1 := dk_seg dksJ36_grow_0 24 rfl rfl
theorem dJ36_grow_0 : decode cJ36_grow 0 = .ok (.aload_n 0, 1) := dk_42 (dk_at dksJ36_grow_0 0 rfl rfl)
theorem dJ36_grow_1 : decode cJ36_grow 1 = .ok (.getfield 17, 3) := dk_180 0 17 (dk_at dksJ36_grow_0 1 rfl rfl)
theorem dJ36_grow_4 : decode cJ36_grow 4 = .ok (.arraylength, 1) := dk_190 (dk_at dksJ36_grow_0 4 rfl rfl)
theorem dJ36_grow_5 : decode cJ36_grow 5 = .ok (.istore_n 2, 1) := dk_61 (dk_at dksJ36_grow_0 5 rfl rfl)
theorem dJ36_grow_6 : decode cJ36_grow 6 = .ok (.iload_n 2, 1) := dk_28 (dk_at dksJ36_grow_0 6 rfl rfl)
theorem dJ36_grow_7 : decode cJ36_grow 7 = .ok (.iload_n 1, 1) := dk_27 (dk_at dksJ36_grow_0 7 rfl rfl)
theorem dJ36_grow_8 : decode cJ36_grow 8 = .ok (.iload_n 2, 1) := dk_28 (dk_at dksJ36_grow_0 8 rfl rfl)
theorem dJ36_grow_9 : decode cJ36_grow 9 = .ok (.isub, 1) := dk_100 (dk_at dksJ36_grow_0 9 rfl rfl)
theorem dJ36_grow_10 : decode cJ36_grow 10 = .ok (.iload_n 2, 1) := dk_28 (dk_at dksJ36_grow_0 10 rfl rfl)
theorem dJ36_grow_11 : decode cJ36_grow 11 = .ok (.bipush 64, 2) := dk_16 64 (dk_at dksJ36_grow_0 11 rfl rfl)
theorem dJ36_grow_13 : decode cJ36_grow 13 = .ok (.if_icmp .ge 9, 3) := dk_162 0 9 (dk_at dksJ36_grow_0 13 rfl rfl)
theorem dJ36_grow_16 : decode cJ36_grow 16 = .ok (.iload_n 2, 1) := dk_28 (dk_at dksJ36_grow_0 16 rfl rfl)
theorem dJ36_grow_17 : decode cJ36_grow 17 = .ok (.iconst 2, 1) := dk_5 (dk_at dksJ36_grow_0 17 rfl rfl)
theorem dJ36_grow_18 : decode cJ36_grow 18 = .ok (.iadd, 1) := dk_96 (dk_at dksJ36_grow_0 18 rfl rfl)
theorem dJ36_grow_19 : decode cJ36_grow 19 = .ok (.goto 6, 3) := dk_167 0 6 (dk_at dksJ36_grow_0 19 rfl rfl)
theorem dJ36_grow_22 : decode cJ36_grow 22 = .ok (.iload_n 2, 1) := dk_28 (dk_at dksJ36_grow_0 22 rfl rfl)
theorem dJ36_grow_23 : decode cJ36_grow 23 = .ok (.iconst 1, 1) := dk_4 (dk_at dksJ36_grow_0 23 rfl rfl)
theorem dJ36_grow_24 : decode cJ36_grow 24 = .ok (.ishr, 1) := dk_122 (dk_at dksJ36_grow_1 0 rfl rfl)
theorem dJ36_grow_25 : decode cJ36_grow 25 = .ok (.invokestatic 80, 3) := dk_184 0 80 (dk_at dksJ36_grow_1 1 rfl rfl)
theorem dJ36_grow_28 : decode cJ36_grow 28 = .ok (.istore_n 3, 1) := dk_62 (dk_at dksJ36_grow_1 4 rfl rfl)
theorem dJ36_grow_29 : decode cJ36_grow 29 = .ok (.aload_n 0, 1) := dk_42 (dk_at dksJ36_grow_1 5 rfl rfl)
theorem dJ36_grow_30 : decode cJ36_grow 30 = .ok (.aload_n 0, 1) := dk_42 (dk_at dksJ36_grow_1 6 rfl rfl)
theorem dJ36_grow_31 : decode cJ36_grow 31 = .ok (.getfield 17, 3) := dk_180 0 17 (dk_at dksJ36_grow_1 7 rfl rfl)
theorem dJ36_grow_34 : decode cJ36_grow 34 = .ok (.iload_n 3, 1) := dk_29 (dk_at dksJ36_grow_1 10 rfl rfl)
theorem dJ36_grow_35 : decode cJ36_grow 35 = .ok (.invokestatic 86, 3) := dk_184 0 86 (dk_at dksJ36_grow_1 11 rfl rfl)
theorem dJ36_grow_38 : decode cJ36_grow 38 = .ok (.putfield 17, 3) := dk_181 0 17 (dk_at dksJ36_grow_1 14 rfl rfl)
theorem dJ36_grow_41 : decode cJ36_grow 41 = .ok (.return_, 1) := dk_177 (dk_at dksJ36_grow_1 17 rfl rfl)
abbrev cJ36_siftUp : ByteArray := prog_71_method_27_code
def yJ36_siftUp : MethodName := ⟨RJ36, "siftUp", "(ILjava/lang/Object;)V"⟩
def dkwJ36_siftUp_1 : List UInt8 := [44, 42, 180, 0, 17, 184, 0, 140, 177]
abbrev dktJ36_siftUp_1 : List UInt8 := dkwJ36_siftUp_1 ++ []
def dkwJ36_siftUp_0 : List UInt8 := [42, 180, 0, 21, 198, 0, 19, 27, 44, 42, 180, 0, 17, 42, 180, 0, 21, 184, 0, 136, 167, 0, 12, 27]
abbrev dktJ36_siftUp_0 : List UInt8 := dkwJ36_siftUp_0 ++ dktJ36_siftUp_1
theorem dksJ36_siftUp_0 : cJ36_siftUp.data.toList.drop 0 = dktJ36_siftUp_0 := by decide +kernel
theorem dksJ36_siftUp_1 : cJ36_siftUp.data.toList.drop 24 = dktJ36_siftUp_1 := dk_seg dksJ36_siftUp_0 24 rfl rfl
theorem dJ36_siftUp_0 : decode cJ36_siftUp 0 = .ok (.aload_n 0, 1) := dk_42 (dk_at dksJ36_siftUp_0 0 rfl rfl)
theorem dJ36_siftUp_1 : decode cJ36_siftUp 1 = .ok (.getfield 21, 3) := dk_180 0 21 (dk_at dksJ36_siftUp_0 1 rfl rfl)
theorem dJ36_siftUp_4 : decode cJ36_siftUp 4 = .ok (.ifnull 19, 3) := dk_198 0 19 (dk_at dksJ36_siftUp_0 4 rfl rfl)
theorem dJ36_siftUp_7 : decode cJ36_siftUp 7 = .ok (.iload_n 1, 1) := dk_27 (dk_at dksJ36_siftUp_0 7 rfl rfl)
theorem dJ36_siftUp_8 : decode cJ36_siftUp 8 = .ok (.aload_n 2, 1) := dk_44 (dk_at dksJ36_siftUp_0 8 rfl rfl)
theorem dJ36_siftUp_9 : decode cJ36_siftUp 9 = .ok (.aload_n 0, 1) := dk_42 (dk_at dksJ36_siftUp_0 9 rfl rfl)
theorem dJ36_siftUp_10 : decode cJ36_siftUp 10 = .ok (.getfield 17, 3) := dk_180 0 17 (dk_at dksJ36_siftUp_0 10 rfl rfl)
theorem dJ36_siftUp_13 : decode cJ36_siftUp 13 = .ok (.aload_n 0, 1) := dk_42 (dk_at dksJ36_siftUp_0 13 rfl rfl)
theorem dJ36_siftUp_14 : decode cJ36_siftUp 14 = .ok (.getfield 21, 3) := dk_180 0 21 (dk_at dksJ36_siftUp_0 14 rfl rfl)
theorem dJ36_siftUp_17 : decode cJ36_siftUp 17 = .ok (.invokestatic 136, 3) := dk_184 0 136 (dk_at dksJ36_siftUp_0 17 rfl rfl)
theorem dJ36_siftUp_20 : decode cJ36_siftUp 20 = .ok (.goto 12, 3) := dk_167 0 12 (dk_at dksJ36_siftUp_0 20 rfl rfl)
theorem dJ36_siftUp_23 : decode cJ36_siftUp 23 = .ok (.iload_n 1, 1) := dk_27 (dk_at dksJ36_siftUp_0 23 rfl rfl)
theorem dJ36_siftUp_24 : decode cJ36_siftUp 24 = .ok (.aload_n 2, 1) := dk_44 (dk_at dksJ36_siftUp_1 0 rfl rfl)
theorem dJ36_siftUp_25 : decode cJ36_siftUp 25 = .ok (.aload_n 0, 1) := dk_42 (dk_at dksJ36_siftUp_1 1 rfl rfl)
theorem dJ36_siftUp_26 : decode cJ36_siftUp 26 = .ok (.getfield 17, 3) := dk_180 0 17 (dk_at dksJ36_siftUp_1 2 rfl rfl)
theorem dJ36_siftUp_29 : decode cJ36_siftUp 29 = .ok (.invokestatic 140, 3) := dk_184 0 140 (dk_at dksJ36_siftUp_1 5 rfl rfl)
theorem dJ36_siftUp_32 : decode cJ36_siftUp 32 = .ok (.return_, 1) := dk_177 (dk_at dksJ36_siftUp_1 8 rfl rfl)
abbrev cJ36_siftUpUsingComparator : ByteArray := prog_71_method_29_code
def yJ36_siftUpUsingComparator : MethodName := ⟨RJ36, "siftUpUsingComparator", "(ILjava/lang/Object;[Ljava/lang/Object;Ljava/util/Comparator;)V"⟩
def dkwJ36_siftUpUsingComparator_2 : List UInt8 := [43, 83, 177]
abbrev dktJ36_siftUpUsingComparator_2 : List UInt8 := dkwJ36_siftUpUsingComparator_2 ++ []
def dkwJ36_siftUpUsingComparator_1 : List UInt8 := [185, 0, 149, 3, 0, 155, 0, 6, 167, 0, 14, 44, 26, 25, 5, 83, 21, 4, 59, 167, 255, 216, 44, 26]
abbrev dktJ36_siftUpUsingComparator_1 : List UInt8 := dkwJ36_siftUpUsingComparator_1 ++ dktJ36_siftUpUsingComparator_2
def dkwJ36_siftUpUsingComparator_0 : List UInt8 := [26, 158, 0, 42, 26, 4, 100, 4, 124, 54, 4, 44, 21, 4, 50, 58, 5, 45, 43, 25, 5]
abbrev dktJ36_siftUpUsingComparator_0 : List UInt8 := dkwJ36_siftUpUsingComparator_0 ++ dktJ36_siftUpUsingComparator_1
theorem dksJ36_siftUpUsingComparator_0 : cJ36_siftUpUsingComparator.data.toList.drop 0 = dktJ36_siftUpUsingComparator_0 := by decide +kernel
theorem dksJ36_siftUpUsingComparator_1 : cJ36_siftUpUsingComparator.data.toList.drop 21 = dktJ36_siftUpUsingComparator_1 := dk_seg dksJ36_siftUpUsingComparator_0 21 rfl rfl
theorem dksJ36_siftUpUsingComparator_2 : cJ36_siftUpUsingComparator.data.toList.drop 45 = dktJ36_siftUpUsingComparator_2 := dk_seg dksJ36_siftUpUsingComparator_1 24 rfl rfl
theorem dJ36_siftUpUsingComparator_0 : decode cJ36_siftUpUsingComparator 0 = .ok (.iload_n 0, 1) := dk_26 (dk_at dksJ36_siftUpUsingComparator_0 0 rfl rfl)
theorem dJ36_siftUpUsingComparator_1 : decode cJ36_siftUpUsingComparator 1 = .ok (.ifCond .le 42, 3) := dk_158 0 42 (dk_at dksJ36_siftUpUsingComparator_0 1 rfl rfl)
theorem dJ36_siftUpUsingComparator_4 : decode cJ36_siftUpUsingComparator 4 = .ok (.iload_n 0, 1) := dk_26 (dk_at dksJ36_siftUpUsingComparator_0 4 rfl rfl)
theorem dJ36_siftUpUsingComparator_5 : decode cJ36_siftUpUsingComparator 5 = .ok (.iconst 1, 1) := dk_4 (dk_at dksJ36_siftUpUsingComparator_0 5 rfl rfl)
theorem dJ36_siftUpUsingComparator_6 : decode cJ36_siftUpUsingComparator 6 = .ok (.isub, 1) := dk_100 (dk_at dksJ36_siftUpUsingComparator_0 6 rfl rfl)
theorem dJ36_siftUpUsingComparator_7 : decode cJ36_siftUpUsingComparator 7 = .ok (.iconst 1, 1) := dk_4 (dk_at dksJ36_siftUpUsingComparator_0 7 rfl rfl)
theorem dJ36_siftUpUsingComparator_8 : decode cJ36_siftUpUsingComparator 8 = .ok (.iushr, 1) := dk_124 (dk_at dksJ36_siftUpUsingComparator_0 8 rfl rfl)
theorem dJ36_siftUpUsingComparator_9 : decode cJ36_siftUpUsingComparator 9 = .ok (.istore 4, 2) := dk_54 4 (dk_at dksJ36_siftUpUsingComparator_0 9 rfl rfl)
theorem dJ36_siftUpUsingComparator_11 : decode cJ36_siftUpUsingComparator 11 = .ok (.aload_n 2, 1) := dk_44 (dk_at dksJ36_siftUpUsingComparator_0 11 rfl rfl)
theorem dJ36_siftUpUsingComparator_12 : decode cJ36_siftUpUsingComparator 12 = .ok (.iload 4, 2) := dk_21 4 (dk_at dksJ36_siftUpUsingComparator_0 12 rfl rfl)
theorem dJ36_siftUpUsingComparator_14 : decode cJ36_siftUpUsingComparator 14 = .ok (.aaload, 1) := dk_50 (dk_at dksJ36_siftUpUsingComparator_0 14 rfl rfl)
theorem dJ36_siftUpUsingComparator_15 : decode cJ36_siftUpUsingComparator 15 = .ok (.astore 5, 2) := dk_58 5 (dk_at dksJ36_siftUpUsingComparator_0 15 rfl rfl)
theorem dJ36_siftUpUsingComparator_17 : decode cJ36_siftUpUsingComparator 17 = .ok (.aload_n 3, 1) := dk_45 (dk_at dksJ36_siftUpUsingComparator_0 17 rfl rfl)
theorem dJ36_siftUpUsingComparator_18 : decode cJ36_siftUpUsingComparator 18 = .ok (.aload_n 1, 1) := dk_43 (dk_at dksJ36_siftUpUsingComparator_0 18 rfl rfl)
theorem dJ36_siftUpUsingComparator_19 : decode cJ36_siftUpUsingComparator 19 = .ok (.aload 5, 2) := dk_25 5 (dk_at dksJ36_siftUpUsingComparator_0 19 rfl rfl)
theorem dJ36_siftUpUsingComparator_21 : decode cJ36_siftUpUsingComparator 21 = .ok (.invokeinterface 149 3, 5) := by decide +kernel
theorem dJ36_siftUpUsingComparator_26 : decode cJ36_siftUpUsingComparator 26 = .ok (.ifCond .lt 6, 3) := dk_155 0 6 (dk_at dksJ36_siftUpUsingComparator_1 5 rfl rfl)
theorem dJ36_siftUpUsingComparator_29 : decode cJ36_siftUpUsingComparator 29 = .ok (.goto 14, 3) := dk_167 0 14 (dk_at dksJ36_siftUpUsingComparator_1 8 rfl rfl)
theorem dJ36_siftUpUsingComparator_32 : decode cJ36_siftUpUsingComparator 32 = .ok (.aload_n 2, 1) := dk_44 (dk_at dksJ36_siftUpUsingComparator_1 11 rfl rfl)
theorem dJ36_siftUpUsingComparator_33 : decode cJ36_siftUpUsingComparator 33 = .ok (.iload_n 0, 1) := dk_26 (dk_at dksJ36_siftUpUsingComparator_1 12 rfl rfl)
theorem dJ36_siftUpUsingComparator_34 : decode cJ36_siftUpUsingComparator 34 = .ok (.aload 5, 2) := dk_25 5 (dk_at dksJ36_siftUpUsingComparator_1 13 rfl rfl)
theorem dJ36_siftUpUsingComparator_36 : decode cJ36_siftUpUsingComparator 36 = .ok (.aastore, 1) := dk_83 (dk_at dksJ36_siftUpUsingComparator_1 15 rfl rfl)
theorem dJ36_siftUpUsingComparator_37 : decode cJ36_siftUpUsingComparator 37 = .ok (.iload 4, 2) := dk_21 4 (dk_at dksJ36_siftUpUsingComparator_1 16 rfl rfl)
theorem dJ36_siftUpUsingComparator_39 : decode cJ36_siftUpUsingComparator 39 = .ok (.istore_n 0, 1) := dk_59 (dk_at dksJ36_siftUpUsingComparator_1 18 rfl rfl)
theorem dJ36_siftUpUsingComparator_40 : decode cJ36_siftUpUsingComparator 40 = .ok (.goto (-40), 3) := dk_167 255 216 (dk_at dksJ36_siftUpUsingComparator_1 19 rfl rfl)
theorem dJ36_siftUpUsingComparator_43 : decode cJ36_siftUpUsingComparator 43 = .ok (.aload_n 2, 1) := dk_44 (dk_at dksJ36_siftUpUsingComparator_1 22 rfl rfl)
theorem dJ36_siftUpUsingComparator_44 : decode cJ36_siftUpUsingComparator 44 = .ok (.iload_n 0, 1) := dk_26 (dk_at dksJ36_siftUpUsingComparator_1 23 rfl rfl)
theorem dJ36_siftUpUsingComparator_45 : decode cJ36_siftUpUsingComparator 45 = .ok (.aload_n 1, 1) := dk_43 (dk_at dksJ36_siftUpUsingComparator_2 0 rfl rfl)
theorem dJ36_siftUpUsingComparator_46 : decode cJ36_siftUpUsingComparator 46 = .ok (.aastore, 1) := dk_83 (dk_at dksJ36_siftUpUsingComparator_2 1 rfl rfl)
theorem dJ36_siftUpUsingComparator_47 : decode cJ36_siftUpUsingComparator 47 = .ok (.return_, 1) := dk_177 (dk_at dksJ36_siftUpUsingComparator_2 2 rfl rfl)
abbrev cJ36_poll : ByteArray := prog_71_method_25_code
def yJ36_poll : MethodName := ⟨RJ36, "poll", "()Ljava/lang/Object;"⟩
def dkwJ36_poll_3 : List UInt8 := [43, 29, 25, 5, 184, 0, 129, 44, 176]
abbrev dktJ36_poll_3 : List UInt8 := dkwJ36_poll_3 ++ []
def dkwJ36_poll_2 : List UInt8 := [42, 180, 0, 21, 89, 58, 5, 199, 0, 14, 3, 25, 4, 43, 29, 184, 0, 125, 167, 0, 13, 3, 25, 4]
abbrev dktJ36_poll_2 : List UInt8 := dkwJ36_poll_2 ++ dktJ36_poll_3
def dkwJ36_poll_1 : List UInt8 := [42, 89, 180, 0, 58, 4, 100, 90, 181, 0, 58, 89, 62, 50, 58, 4, 43, 29, 1, 83, 29, 158, 0, 34]
abbrev dktJ36_poll_1 : List UInt8 := dkwJ36_poll_1 ++ dktJ36_poll_2
def dkwJ36_poll_0 : List UInt8 := [42, 180, 0, 17, 89, 76, 3, 50, 89, 77, 198, 0, 69, 42, 89, 180, 0, 93, 4, 96, 181, 0, 93, 43]
abbrev dktJ36_poll_0 : List UInt8 := dkwJ36_poll_0 ++ dktJ36_poll_1
theorem dksJ36_poll_0 : cJ36_poll.data.toList.drop 0 = dktJ36_poll_0 := by decide +kernel
theorem dksJ36_poll_1 : cJ36_poll.data.toList.drop 24 = dktJ36_poll_1 := dk_seg dksJ36_poll_0 24 rfl rfl
theorem dksJ36_poll_2 : cJ36_poll.data.toList.drop 48 = dktJ36_poll_2 := dk_seg dksJ36_poll_1 24 rfl rfl
theorem dksJ36_poll_3 : cJ36_poll.data.toList.drop 72 = dktJ36_poll_3 := dk_seg dksJ36_poll_2 24 rfl rfl
theorem dJ36_poll_0 : decode cJ36_poll 0 = .ok (.aload_n 0, 1) := dk_42 (dk_at dksJ36_poll_0 0 rfl rfl)
theorem dJ36_poll_1 : decode cJ36_poll 1 = .ok (.getfield 17, 3) := dk_180 0 17 (dk_at dksJ36_poll_0 1 rfl rfl)
theorem dJ36_poll_4 : decode cJ36_poll 4 = .ok (.dup, 1) := dk_89 (dk_at dksJ36_poll_0 4 rfl rfl)
theorem dJ36_poll_5 : decode cJ36_poll 5 = .ok (.astore_n 1, 1) := dk_76 (dk_at dksJ36_poll_0 5 rfl rfl)
theorem dJ36_poll_6 : decode cJ36_poll 6 = .ok (.iconst 0, 1) := dk_3 (dk_at dksJ36_poll_0 6 rfl rfl)
theorem dJ36_poll_7 : decode cJ36_poll 7 = .ok (.aaload, 1) := dk_50 (dk_at dksJ36_poll_0 7 rfl rfl)
theorem dJ36_poll_8 : decode cJ36_poll 8 = .ok (.dup, 1) := dk_89 (dk_at dksJ36_poll_0 8 rfl rfl)
theorem dJ36_poll_9 : decode cJ36_poll 9 = .ok (.astore_n 2, 1) := dk_77 (dk_at dksJ36_poll_0 9 rfl rfl)
theorem dJ36_poll_10 : decode cJ36_poll 10 = .ok (.ifnull 69, 3) := dk_198 0 69 (dk_at dksJ36_poll_0 10 rfl rfl)
theorem dJ36_poll_13 : decode cJ36_poll 13 = .ok (.aload_n 0, 1) := dk_42 (dk_at dksJ36_poll_0 13 rfl rfl)
theorem dJ36_poll_14 : decode cJ36_poll 14 = .ok (.dup, 1) := dk_89 (dk_at dksJ36_poll_0 14 rfl rfl)
theorem dJ36_poll_15 : decode cJ36_poll 15 = .ok (.getfield 93, 3) := dk_180 0 93 (dk_at dksJ36_poll_0 15 rfl rfl)
theorem dJ36_poll_18 : decode cJ36_poll 18 = .ok (.iconst 1, 1) := dk_4 (dk_at dksJ36_poll_0 18 rfl rfl)
theorem dJ36_poll_19 : decode cJ36_poll 19 = .ok (.iadd, 1) := dk_96 (dk_at dksJ36_poll_0 19 rfl rfl)
theorem dJ36_poll_20 : decode cJ36_poll 20 = .ok (.putfield 93, 3) := dk_181 0 93 (dk_at dksJ36_poll_0 20 rfl rfl)
theorem dJ36_poll_23 : decode cJ36_poll 23 = .ok (.aload_n 1, 1) := dk_43 (dk_at dksJ36_poll_0 23 rfl rfl)
theorem dJ36_poll_24 : decode cJ36_poll 24 = .ok (.aload_n 0, 1) := dk_42 (dk_at dksJ36_poll_1 0 rfl rfl)
theorem dJ36_poll_25 : decode cJ36_poll 25 = .ok (.dup, 1) := dk_89 (dk_at dksJ36_poll_1 1 rfl rfl)
theorem dJ36_poll_26 : decode cJ36_poll 26 = .ok (.getfield 58, 3) := dk_180 0 58 (dk_at dksJ36_poll_1 2 rfl rfl)
theorem dJ36_poll_29 : decode cJ36_poll 29 = .ok (.iconst 1, 1) := dk_4 (dk_at dksJ36_poll_1 5 rfl rfl)
theorem dJ36_poll_30 : decode cJ36_poll 30 = .ok (.isub, 1) := dk_100 (dk_at dksJ36_poll_1 6 rfl rfl)
theorem dJ36_poll_31 : decode cJ36_poll 31 = .ok (.dup_x1, 1) := dk_90 (dk_at dksJ36_poll_1 7 rfl rfl)
theorem dJ36_poll_32 : decode cJ36_poll 32 = .ok (.putfield 58, 3) := dk_181 0 58 (dk_at dksJ36_poll_1 8 rfl rfl)
theorem dJ36_poll_35 : decode cJ36_poll 35 = .ok (.dup, 1) := dk_89 (dk_at dksJ36_poll_1 11 rfl rfl)
theorem dJ36_poll_36 : decode cJ36_poll 36 = .ok (.istore_n 3, 1) := dk_62 (dk_at dksJ36_poll_1 12 rfl rfl)
theorem dJ36_poll_37 : decode cJ36_poll 37 = .ok (.aaload, 1) := dk_50 (dk_at dksJ36_poll_1 13 rfl rfl)
theorem dJ36_poll_38 : decode cJ36_poll 38 = .ok (.astore 4, 2) := dk_58 4 (dk_at dksJ36_poll_1 14 rfl rfl)
theorem dJ36_poll_40 : decode cJ36_poll 40 = .ok (.aload_n 1, 1) := dk_43 (dk_at dksJ36_poll_1 16 rfl rfl)
theorem dJ36_poll_41 : decode cJ36_poll 41 = .ok (.iload_n 3, 1) := dk_29 (dk_at dksJ36_poll_1 17 rfl rfl)
theorem dJ36_poll_42 : decode cJ36_poll 42 = .ok (.aconst_null, 1) := dk_1 (dk_at dksJ36_poll_1 18 rfl rfl)
theorem dJ36_poll_43 : decode cJ36_poll 43 = .ok (.aastore, 1) := dk_83 (dk_at dksJ36_poll_1 19 rfl rfl)
theorem dJ36_poll_44 : decode cJ36_poll 44 = .ok (.iload_n 3, 1) := dk_29 (dk_at dksJ36_poll_1 20 rfl rfl)
theorem dJ36_poll_45 : decode cJ36_poll 45 = .ok (.ifCond .le 34, 3) := dk_158 0 34 (dk_at dksJ36_poll_1 21 rfl rfl)
theorem dJ36_poll_48 : decode cJ36_poll 48 = .ok (.aload_n 0, 1) := dk_42 (dk_at dksJ36_poll_2 0 rfl rfl)
theorem dJ36_poll_49 : decode cJ36_poll 49 = .ok (.getfield 21, 3) := dk_180 0 21 (dk_at dksJ36_poll_2 1 rfl rfl)
theorem dJ36_poll_52 : decode cJ36_poll 52 = .ok (.dup, 1) := dk_89 (dk_at dksJ36_poll_2 4 rfl rfl)
theorem dJ36_poll_53 : decode cJ36_poll 53 = .ok (.astore 5, 2) := dk_58 5 (dk_at dksJ36_poll_2 5 rfl rfl)
theorem dJ36_poll_55 : decode cJ36_poll 55 = .ok (.ifnonnull 14, 3) := dk_199 0 14 (dk_at dksJ36_poll_2 7 rfl rfl)
theorem dJ36_poll_58 : decode cJ36_poll 58 = .ok (.iconst 0, 1) := dk_3 (dk_at dksJ36_poll_2 10 rfl rfl)
theorem dJ36_poll_59 : decode cJ36_poll 59 = .ok (.aload 4, 2) := dk_25 4 (dk_at dksJ36_poll_2 11 rfl rfl)
theorem dJ36_poll_61 : decode cJ36_poll 61 = .ok (.aload_n 1, 1) := dk_43 (dk_at dksJ36_poll_2 13 rfl rfl)
theorem dJ36_poll_62 : decode cJ36_poll 62 = .ok (.iload_n 3, 1) := dk_29 (dk_at dksJ36_poll_2 14 rfl rfl)
theorem dJ36_poll_63 : decode cJ36_poll 63 = .ok (.invokestatic 125, 3) := dk_184 0 125 (dk_at dksJ36_poll_2 15 rfl rfl)
theorem dJ36_poll_66 : decode cJ36_poll 66 = .ok (.goto 13, 3) := dk_167 0 13 (dk_at dksJ36_poll_2 18 rfl rfl)
theorem dJ36_poll_69 : decode cJ36_poll 69 = .ok (.iconst 0, 1) := dk_3 (dk_at dksJ36_poll_2 21 rfl rfl)
theorem dJ36_poll_70 : decode cJ36_poll 70 = .ok (.aload 4, 2) := dk_25 4 (dk_at dksJ36_poll_2 22 rfl rfl)
theorem dJ36_poll_72 : decode cJ36_poll 72 = .ok (.aload_n 1, 1) := dk_43 (dk_at dksJ36_poll_3 0 rfl rfl)
theorem dJ36_poll_73 : decode cJ36_poll 73 = .ok (.iload_n 3, 1) := dk_29 (dk_at dksJ36_poll_3 1 rfl rfl)
theorem dJ36_poll_74 : decode cJ36_poll 74 = .ok (.aload 5, 2) := dk_25 5 (dk_at dksJ36_poll_3 2 rfl rfl)
theorem dJ36_poll_76 : decode cJ36_poll 76 = .ok (.invokestatic 129, 3) := dk_184 0 129 (dk_at dksJ36_poll_3 4 rfl rfl)
theorem dJ36_poll_79 : decode cJ36_poll 79 = .ok (.aload_n 2, 1) := dk_44 (dk_at dksJ36_poll_3 7 rfl rfl)
theorem dJ36_poll_80 : decode cJ36_poll 80 = .ok (.areturn, 1) := dk_176 (dk_at dksJ36_poll_3 8 rfl rfl)
abbrev cJ36_siftDownUsingComparator : ByteArray := prog_71_method_32_code
def yJ36_siftDownUsingComparator : MethodName := ⟨RJ36, "siftDownUsingComparator", "(ILjava/lang/Object;[Ljava/lang/Object;ILjava/util/Comparator;)V"⟩
def dkwJ36_siftDownUsingComparator_4 : List UInt8 := [43, 83, 177]
abbrev dktJ36_siftDownUsingComparator_4 : List UInt8 := dkwJ36_siftDownUsingComparator_4 ++ []
def dkwJ36_siftDownUsingComparator_3 : List UInt8 := [185, 0, 149, 3, 0, 157, 0, 6, 167, 0, 14, 44, 26, 25, 7, 83, 21, 6, 59, 167, 255, 176, 44, 26]
abbrev dktJ36_siftDownUsingComparator_3 : List UInt8 := dkwJ36_siftDownUsingComparator_3 ++ dktJ36_siftDownUsingComparator_4
def dkwJ36_siftDownUsingComparator_2 : List UInt8 := [185, 0, 149, 3, 0, 158, 0, 12, 44, 21, 8, 89, 54, 6, 50, 58, 7, 25, 4, 43, 25, 7]
abbrev dktJ36_siftDownUsingComparator_2 : List UInt8 := dkwJ36_siftDownUsingComparator_2 ++ dktJ36_siftDownUsingComparator_3
def dkwJ36_siftDownUsingComparator_1 : List UInt8 := [21, 6, 4, 96, 54, 8, 21, 8, 29, 162, 0, 28, 25, 4, 25, 7, 44, 21, 8, 50]
abbrev dktJ36_siftDownUsingComparator_1 : List UInt8 := dkwJ36_siftDownUsingComparator_1 ++ dktJ36_siftDownUsingComparator_2
def dkwJ36_siftDownUsingComparator_0 : List UInt8 := [29, 4, 124, 54, 5, 26, 21, 5, 162, 0, 80, 26, 4, 120, 4, 96, 54, 6, 44, 21, 6, 50, 58, 7]
abbrev dktJ36_siftDownUsingComparator_0 : List UInt8 := dkwJ36_siftDownUsingComparator_0 ++ dktJ36_siftDownUsingComparator_1
theorem dksJ36_siftDownUsingComparator_0 : cJ36_siftDownUsingComparator.data.toList.drop 0 = dktJ36_siftDownUsingComparator_0 := by decide +kernel
theorem dksJ36_siftDownUsingComparator_1 : cJ36_siftDownUsingComparator.data.toList.drop 24 = dktJ36_siftDownUsingComparator_1 := dk_seg dksJ36_siftDownUsingComparator_0 24 rfl rfl
theorem dksJ36_siftDownUsingComparator_2 : cJ36_siftDownUsingComparator.data.toList.drop 44 = dktJ36_siftDownUsingComparator_2 := dk_seg dksJ36_siftDownUsingComparator_1 20 rfl rfl
theorem dksJ36_siftDownUsingComparator_3 : cJ36_siftDownUsingComparator.data.toList.drop 66 = dktJ36_siftDownUsingComparator_3 := dk_seg dksJ36_siftDownUsingComparator_2 22 rfl rfl
theorem dksJ36_siftDownUsingComparator_4 : cJ36_siftDownUsingComparator.data.toList.drop 90 = dktJ36_siftDownUsingComparator_4 := dk_seg dksJ36_siftDownUsingComparator_3 24 rfl rfl
theorem dJ36_siftDownUsingComparator_0 : decode cJ36_siftDownUsingComparator 0 = .ok (.iload_n 3, 1) := dk_29 (dk_at dksJ36_siftDownUsingComparator_0 0 rfl rfl)
theorem dJ36_siftDownUsingComparator_1 : decode cJ36_siftDownUsingComparator 1 = .ok (.iconst 1, 1) := dk_4 (dk_at dksJ36_siftDownUsingComparator_0 1 rfl rfl)
theorem dJ36_siftDownUsingComparator_2 : decode cJ36_siftDownUsingComparator 2 = .ok (.iushr, 1) := dk_124 (dk_at dksJ36_siftDownUsingComparator_0 2 rfl rfl)
theorem dJ36_siftDownUsingComparator_3 : decode cJ36_siftDownUsingComparator 3 = .ok (.istore 5, 2) := dk_54 5 (dk_at dksJ36_siftDownUsingComparator_0 3 rfl rfl)
theorem dJ36_siftDownUsingComparator_5 : decode cJ36_siftDownUsingComparator 5 = .ok (.iload_n 0, 1) := dk_26 (dk_at dksJ36_siftDownUsingComparator_0 5 rfl rfl)
theorem dJ36_siftDownUsingComparator_6 : decode cJ36_siftDownUsingComparator 6 = .ok (.iload 5, 2) := dk_21 5 (dk_at dksJ36_siftDownUsingComparator_0 6 rfl rfl)
theorem dJ36_siftDownUsingComparator_8 : decode cJ36_siftDownUsingComparator 8 = .ok (.if_icmp .ge 80, 3) := dk_162 0 80 (dk_at dksJ36_siftDownUsingComparator_0 8 rfl rfl)
theorem dJ36_siftDownUsingComparator_11 : decode cJ36_siftDownUsingComparator 11 = .ok (.iload_n 0, 1) := dk_26 (dk_at dksJ36_siftDownUsingComparator_0 11 rfl rfl)
theorem dJ36_siftDownUsingComparator_12 : decode cJ36_siftDownUsingComparator 12 = .ok (.iconst 1, 1) := dk_4 (dk_at dksJ36_siftDownUsingComparator_0 12 rfl rfl)
theorem dJ36_siftDownUsingComparator_13 : decode cJ36_siftDownUsingComparator 13 = .ok (.ishl, 1) := dk_120 (dk_at dksJ36_siftDownUsingComparator_0 13 rfl rfl)
theorem dJ36_siftDownUsingComparator_14 : decode cJ36_siftDownUsingComparator 14 = .ok (.iconst 1, 1) := dk_4 (dk_at dksJ36_siftDownUsingComparator_0 14 rfl rfl)
theorem dJ36_siftDownUsingComparator_15 : decode cJ36_siftDownUsingComparator 15 = .ok (.iadd, 1) := dk_96 (dk_at dksJ36_siftDownUsingComparator_0 15 rfl rfl)
theorem dJ36_siftDownUsingComparator_16 : decode cJ36_siftDownUsingComparator 16 = .ok (.istore 6, 2) := dk_54 6 (dk_at dksJ36_siftDownUsingComparator_0 16 rfl rfl)
theorem dJ36_siftDownUsingComparator_18 : decode cJ36_siftDownUsingComparator 18 = .ok (.aload_n 2, 1) := dk_44 (dk_at dksJ36_siftDownUsingComparator_0 18 rfl rfl)
theorem dJ36_siftDownUsingComparator_19 : decode cJ36_siftDownUsingComparator 19 = .ok (.iload 6, 2) := dk_21 6 (dk_at dksJ36_siftDownUsingComparator_0 19 rfl rfl)
theorem dJ36_siftDownUsingComparator_21 : decode cJ36_siftDownUsingComparator 21 = .ok (.aaload, 1) := dk_50 (dk_at dksJ36_siftDownUsingComparator_0 21 rfl rfl)
theorem dJ36_siftDownUsingComparator_22 : decode cJ36_siftDownUsingComparator 22 = .ok (.astore 7, 2) := dk_58 7 (dk_at dksJ36_siftDownUsingComparator_0 22 rfl rfl)
theorem dJ36_siftDownUsingComparator_24 : decode cJ36_siftDownUsingComparator 24 = .ok (.iload 6, 2) := dk_21 6 (dk_at dksJ36_siftDownUsingComparator_1 0 rfl rfl)
theorem dJ36_siftDownUsingComparator_26 : decode cJ36_siftDownUsingComparator 26 = .ok (.iconst 1, 1) := dk_4 (dk_at dksJ36_siftDownUsingComparator_1 2 rfl rfl)
theorem dJ36_siftDownUsingComparator_27 : decode cJ36_siftDownUsingComparator 27 = .ok (.iadd, 1) := dk_96 (dk_at dksJ36_siftDownUsingComparator_1 3 rfl rfl)
theorem dJ36_siftDownUsingComparator_28 : decode cJ36_siftDownUsingComparator 28 = .ok (.istore 8, 2) := dk_54 8 (dk_at dksJ36_siftDownUsingComparator_1 4 rfl rfl)
theorem dJ36_siftDownUsingComparator_30 : decode cJ36_siftDownUsingComparator 30 = .ok (.iload 8, 2) := dk_21 8 (dk_at dksJ36_siftDownUsingComparator_1 6 rfl rfl)
theorem dJ36_siftDownUsingComparator_32 : decode cJ36_siftDownUsingComparator 32 = .ok (.iload_n 3, 1) := dk_29 (dk_at dksJ36_siftDownUsingComparator_1 8 rfl rfl)
theorem dJ36_siftDownUsingComparator_33 : decode cJ36_siftDownUsingComparator 33 = .ok (.if_icmp .ge 28, 3) := dk_162 0 28 (dk_at dksJ36_siftDownUsingComparator_1 9 rfl rfl)
theorem dJ36_siftDownUsingComparator_36 : decode cJ36_siftDownUsingComparator 36 = .ok (.aload 4, 2) := dk_25 4 (dk_at dksJ36_siftDownUsingComparator_1 12 rfl rfl)
theorem dJ36_siftDownUsingComparator_38 : decode cJ36_siftDownUsingComparator 38 = .ok (.aload 7, 2) := dk_25 7 (dk_at dksJ36_siftDownUsingComparator_1 14 rfl rfl)
theorem dJ36_siftDownUsingComparator_40 : decode cJ36_siftDownUsingComparator 40 = .ok (.aload_n 2, 1) := dk_44 (dk_at dksJ36_siftDownUsingComparator_1 16 rfl rfl)
theorem dJ36_siftDownUsingComparator_41 : decode cJ36_siftDownUsingComparator 41 = .ok (.iload 8, 2) := dk_21 8 (dk_at dksJ36_siftDownUsingComparator_1 17 rfl rfl)
theorem dJ36_siftDownUsingComparator_43 : decode cJ36_siftDownUsingComparator 43 = .ok (.aaload, 1) := dk_50 (dk_at dksJ36_siftDownUsingComparator_1 19 rfl rfl)
theorem dJ36_siftDownUsingComparator_44 : decode cJ36_siftDownUsingComparator 44 = .ok (.invokeinterface 149 3, 5) := by decide +kernel
theorem dJ36_siftDownUsingComparator_49 : decode cJ36_siftDownUsingComparator 49 = .ok (.ifCond .le 12, 3) := dk_158 0 12 (dk_at dksJ36_siftDownUsingComparator_2 5 rfl rfl)
theorem dJ36_siftDownUsingComparator_52 : decode cJ36_siftDownUsingComparator 52 = .ok (.aload_n 2, 1) := dk_44 (dk_at dksJ36_siftDownUsingComparator_2 8 rfl rfl)
theorem dJ36_siftDownUsingComparator_53 : decode cJ36_siftDownUsingComparator 53 = .ok (.iload 8, 2) := dk_21 8 (dk_at dksJ36_siftDownUsingComparator_2 9 rfl rfl)
theorem dJ36_siftDownUsingComparator_55 : decode cJ36_siftDownUsingComparator 55 = .ok (.dup, 1) := dk_89 (dk_at dksJ36_siftDownUsingComparator_2 11 rfl rfl)
theorem dJ36_siftDownUsingComparator_56 : decode cJ36_siftDownUsingComparator 56 = .ok (.istore 6, 2) := dk_54 6 (dk_at dksJ36_siftDownUsingComparator_2 12 rfl rfl)
theorem dJ36_siftDownUsingComparator_58 : decode cJ36_siftDownUsingComparator 58 = .ok (.aaload, 1) := dk_50 (dk_at dksJ36_siftDownUsingComparator_2 14 rfl rfl)
theorem dJ36_siftDownUsingComparator_59 : decode cJ36_siftDownUsingComparator 59 = .ok (.astore 7, 2) := dk_58 7 (dk_at dksJ36_siftDownUsingComparator_2 15 rfl rfl)
theorem dJ36_siftDownUsingComparator_61 : decode cJ36_siftDownUsingComparator 61 = .ok (.aload 4, 2) := dk_25 4 (dk_at dksJ36_siftDownUsingComparator_2 17 rfl rfl)
theorem dJ36_siftDownUsingComparator_63 : decode cJ36_siftDownUsingComparator 63 = .ok (.aload_n 1, 1) := dk_43 (dk_at dksJ36_siftDownUsingComparator_2 19 rfl rfl)
theorem dJ36_siftDownUsingComparator_64 : decode cJ36_siftDownUsingComparator 64 = .ok (.aload 7, 2) := dk_25 7 (dk_at dksJ36_siftDownUsingComparator_2 20 rfl rfl)
theorem dJ36_siftDownUsingComparator_66 : decode cJ36_siftDownUsingComparator 66 = .ok (.invokeinterface 149 3, 5) := by decide +kernel
theorem dJ36_siftDownUsingComparator_71 : decode cJ36_siftDownUsingComparator 71 = .ok (.ifCond .gt 6, 3) := dk_157 0 6 (dk_at dksJ36_siftDownUsingComparator_3 5 rfl rfl)
theorem dJ36_siftDownUsingComparator_74 : decode cJ36_siftDownUsingComparator 74 = .ok (.goto 14, 3) := dk_167 0 14 (dk_at dksJ36_siftDownUsingComparator_3 8 rfl rfl)
theorem dJ36_siftDownUsingComparator_77 : decode cJ36_siftDownUsingComparator 77 = .ok (.aload_n 2, 1) := dk_44 (dk_at dksJ36_siftDownUsingComparator_3 11 rfl rfl)
theorem dJ36_siftDownUsingComparator_78 : decode cJ36_siftDownUsingComparator 78 = .ok (.iload_n 0, 1) := dk_26 (dk_at dksJ36_siftDownUsingComparator_3 12 rfl rfl)
theorem dJ36_siftDownUsingComparator_79 : decode cJ36_siftDownUsingComparator 79 = .ok (.aload 7, 2) := dk_25 7 (dk_at dksJ36_siftDownUsingComparator_3 13 rfl rfl)
theorem dJ36_siftDownUsingComparator_81 : decode cJ36_siftDownUsingComparator 81 = .ok (.aastore, 1) := dk_83 (dk_at dksJ36_siftDownUsingComparator_3 15 rfl rfl)
theorem dJ36_siftDownUsingComparator_82 : decode cJ36_siftDownUsingComparator 82 = .ok (.iload 6, 2) := dk_21 6 (dk_at dksJ36_siftDownUsingComparator_3 16 rfl rfl)
theorem dJ36_siftDownUsingComparator_84 : decode cJ36_siftDownUsingComparator 84 = .ok (.istore_n 0, 1) := dk_59 (dk_at dksJ36_siftDownUsingComparator_3 18 rfl rfl)
theorem dJ36_siftDownUsingComparator_85 : decode cJ36_siftDownUsingComparator 85 = .ok (.goto (-80), 3) := dk_167 255 176 (dk_at dksJ36_siftDownUsingComparator_3 19 rfl rfl)
theorem dJ36_siftDownUsingComparator_88 : decode cJ36_siftDownUsingComparator 88 = .ok (.aload_n 2, 1) := dk_44 (dk_at dksJ36_siftDownUsingComparator_3 22 rfl rfl)
theorem dJ36_siftDownUsingComparator_89 : decode cJ36_siftDownUsingComparator 89 = .ok (.iload_n 0, 1) := dk_26 (dk_at dksJ36_siftDownUsingComparator_3 23 rfl rfl)
theorem dJ36_siftDownUsingComparator_90 : decode cJ36_siftDownUsingComparator 90 = .ok (.aload_n 1, 1) := dk_43 (dk_at dksJ36_siftDownUsingComparator_4 0 rfl rfl)
theorem dJ36_siftDownUsingComparator_91 : decode cJ36_siftDownUsingComparator 91 = .ok (.aastore, 1) := dk_83 (dk_at dksJ36_siftDownUsingComparator_4 1 rfl rfl)
theorem dJ36_siftDownUsingComparator_92 : decode cJ36_siftDownUsingComparator 92 = .ok (.return_, 1) := dk_177 (dk_at dksJ36_siftDownUsingComparator_4 2 rfl rfl)
abbrev cJ36_remove : ByteArray := prog_71_method_17_code
def yJ36_remove : MethodName := ⟨RJ36, "remove", "(Ljava/lang/Object;)Z"⟩
def dkwJ36_remove_0 : List UInt8 := [42, 43, 182, 0, 107, 61, 28, 2, 160, 0, 5, 3, 172, 42, 28, 182, 0, 111, 87, 4, 172]
abbrev dktJ36_remove_0 : List UInt8 := dkwJ36_remove_0 ++ []
theorem dksJ36_remove_0 : cJ36_remove.data.toList.drop 0 = dktJ36_remove_0 := by decide +kernel
theorem dJ36_remove_0 : decode cJ36_remove 0 = .ok (.aload_n 0, 1) := dk_42 (dk_at dksJ36_remove_0 0 rfl rfl)
theorem dJ36_remove_1 : decode cJ36_remove 1 = .ok (.aload_n 1, 1) := dk_43 (dk_at dksJ36_remove_0 1 rfl rfl)
theorem dJ36_remove_2 : decode cJ36_remove 2 = .ok (.invokevirtual 107, 3) := dk_182 0 107 (dk_at dksJ36_remove_0 2 rfl rfl)
theorem dJ36_remove_5 : decode cJ36_remove 5 = .ok (.istore_n 2, 1) := dk_61 (dk_at dksJ36_remove_0 5 rfl rfl)
theorem dJ36_remove_6 : decode cJ36_remove 6 = .ok (.iload_n 2, 1) := dk_28 (dk_at dksJ36_remove_0 6 rfl rfl)
theorem dJ36_remove_7 : decode cJ36_remove 7 = .ok (.iconst (-1), 1) := dk_2 (dk_at dksJ36_remove_0 7 rfl rfl)
theorem dJ36_remove_8 : decode cJ36_remove 8 = .ok (.if_icmp .ne 5, 3) := dk_160 0 5 (dk_at dksJ36_remove_0 8 rfl rfl)
theorem dJ36_remove_11 : decode cJ36_remove 11 = .ok (.iconst 0, 1) := dk_3 (dk_at dksJ36_remove_0 11 rfl rfl)
theorem dJ36_remove_12 : decode cJ36_remove 12 = .ok (.ireturn, 1) := dk_172 (dk_at dksJ36_remove_0 12 rfl rfl)
theorem dJ36_remove_13 : decode cJ36_remove 13 = .ok (.aload_n 0, 1) := dk_42 (dk_at dksJ36_remove_0 13 rfl rfl)
theorem dJ36_remove_14 : decode cJ36_remove 14 = .ok (.iload_n 2, 1) := dk_28 (dk_at dksJ36_remove_0 14 rfl rfl)
theorem dJ36_remove_15 : decode cJ36_remove 15 = .ok (.invokevirtual 111, 3) := dk_182 0 111 (dk_at dksJ36_remove_0 15 rfl rfl)
theorem dJ36_remove_18 : decode cJ36_remove 18 = .ok (.pop, 1) := dk_87 (dk_at dksJ36_remove_0 18 rfl rfl)
theorem dJ36_remove_19 : decode cJ36_remove 19 = .ok (.iconst 1, 1) := dk_4 (dk_at dksJ36_remove_0 19 rfl rfl)
theorem dJ36_remove_20 : decode cJ36_remove 20 = .ok (.ireturn, 1) := dk_172 (dk_at dksJ36_remove_0 20 rfl rfl)
abbrev cJ36_indexOf : ByteArray := prog_71_method_16_code
def yJ36_indexOf : MethodName := ⟨RJ36, "indexOf", "(Ljava/lang/Object;)I"⟩
def dkwJ36_indexOf_1 : List UInt8 := [44, 29, 50, 182, 0, 104, 153, 0, 5, 29, 172, 132, 3, 1, 167, 255, 235, 2, 172]
abbrev dktJ36_indexOf_1 : List UInt8 := dkwJ36_indexOf_1 ++ []
def dkwJ36_indexOf_0 : List UInt8 := [43, 198, 0, 40, 42, 180, 0, 17, 77, 3, 62, 42, 180, 0, 58, 54, 4, 29, 21, 4, 162, 0, 21, 43]
abbrev dktJ36_indexOf_0 : List UInt8 := dkwJ36_indexOf_0 ++ dktJ36_indexOf_1
theorem dksJ36_indexOf_0 : cJ36_indexOf.data.toList.drop 0 = dktJ36_indexOf_0 := by decide +kernel
theorem dksJ36_indexOf_1 : cJ36_indexOf.data.toList.drop 24 = dktJ36_indexOf_1 := dk_seg dksJ36_indexOf_0 24 rfl rfl
theorem dJ36_indexOf_0 : decode cJ36_indexOf 0 = .ok (.aload_n 1, 1) := dk_43 (dk_at dksJ36_indexOf_0 0 rfl rfl)
theorem dJ36_indexOf_1 : decode cJ36_indexOf 1 = .ok (.ifnull 40, 3) := dk_198 0 40 (dk_at dksJ36_indexOf_0 1 rfl rfl)
theorem dJ36_indexOf_4 : decode cJ36_indexOf 4 = .ok (.aload_n 0, 1) := dk_42 (dk_at dksJ36_indexOf_0 4 rfl rfl)
theorem dJ36_indexOf_5 : decode cJ36_indexOf 5 = .ok (.getfield 17, 3) := dk_180 0 17 (dk_at dksJ36_indexOf_0 5 rfl rfl)
theorem dJ36_indexOf_8 : decode cJ36_indexOf 8 = .ok (.astore_n 2, 1) := dk_77 (dk_at dksJ36_indexOf_0 8 rfl rfl)
theorem dJ36_indexOf_9 : decode cJ36_indexOf 9 = .ok (.iconst 0, 1) := dk_3 (dk_at dksJ36_indexOf_0 9 rfl rfl)
theorem dJ36_indexOf_10 : decode cJ36_indexOf 10 = .ok (.istore_n 3, 1) := dk_62 (dk_at dksJ36_indexOf_0 10 rfl rfl)
theorem dJ36_indexOf_11 : decode cJ36_indexOf 11 = .ok (.aload_n 0, 1) := dk_42 (dk_at dksJ36_indexOf_0 11 rfl rfl)
theorem dJ36_indexOf_12 : decode cJ36_indexOf 12 = .ok (.getfield 58, 3) := dk_180 0 58 (dk_at dksJ36_indexOf_0 12 rfl rfl)
theorem dJ36_indexOf_15 : decode cJ36_indexOf 15 = .ok (.istore 4, 2) := dk_54 4 (dk_at dksJ36_indexOf_0 15 rfl rfl)
theorem dJ36_indexOf_17 : decode cJ36_indexOf 17 = .ok (.iload_n 3, 1) := dk_29 (dk_at dksJ36_indexOf_0 17 rfl rfl)
theorem dJ36_indexOf_18 : decode cJ36_indexOf 18 = .ok (.iload 4, 2) := dk_21 4 (dk_at dksJ36_indexOf_0 18 rfl rfl)
theorem dJ36_indexOf_20 : decode cJ36_indexOf 20 = .ok (.if_icmp .ge 21, 3) := dk_162 0 21 (dk_at dksJ36_indexOf_0 20 rfl rfl)
theorem dJ36_indexOf_23 : decode cJ36_indexOf 23 = .ok (.aload_n 1, 1) := dk_43 (dk_at dksJ36_indexOf_0 23 rfl rfl)
theorem dJ36_indexOf_24 : decode cJ36_indexOf 24 = .ok (.aload_n 2, 1) := dk_44 (dk_at dksJ36_indexOf_1 0 rfl rfl)
theorem dJ36_indexOf_25 : decode cJ36_indexOf 25 = .ok (.iload_n 3, 1) := dk_29 (dk_at dksJ36_indexOf_1 1 rfl rfl)
theorem dJ36_indexOf_26 : decode cJ36_indexOf 26 = .ok (.aaload, 1) := dk_50 (dk_at dksJ36_indexOf_1 2 rfl rfl)
theorem dJ36_indexOf_27 : decode cJ36_indexOf 27 = .ok (.invokevirtual 104, 3) := dk_182 0 104 (dk_at dksJ36_indexOf_1 3 rfl rfl)
theorem dJ36_indexOf_30 : decode cJ36_indexOf 30 = .ok (.ifCond .eq 5, 3) := dk_153 0 5 (dk_at dksJ36_indexOf_1 6 rfl rfl)
theorem dJ36_indexOf_33 : decode cJ36_indexOf 33 = .ok (.iload_n 3, 1) := dk_29 (dk_at dksJ36_indexOf_1 9 rfl rfl)
theorem dJ36_indexOf_34 : decode cJ36_indexOf 34 = .ok (.ireturn, 1) := dk_172 (dk_at dksJ36_indexOf_1 10 rfl rfl)
theorem dJ36_indexOf_35 : decode cJ36_indexOf 35 = .ok (.iinc 3 1, 3) := dk_132 3 1 (dk_at dksJ36_indexOf_1 11 rfl rfl)
theorem dJ36_indexOf_38 : decode cJ36_indexOf 38 = .ok (.goto (-21), 3) := dk_167 255 235 (dk_at dksJ36_indexOf_1 14 rfl rfl)
theorem dJ36_indexOf_41 : decode cJ36_indexOf 41 = .ok (.iconst (-1), 1) := dk_2 (dk_at dksJ36_indexOf_1 17 rfl rfl)
theorem dJ36_indexOf_42 : decode cJ36_indexOf 42 = .ok (.ireturn, 1) := dk_172 (dk_at dksJ36_indexOf_1 18 rfl rfl)
abbrev cJ36_removeAt : ByteArray := prog_71_method_26_code
def yJ36_removeAt : MethodName := ⟨RJ36, "removeAt", "(I)Ljava/lang/Object;"⟩
def dkwJ36_removeAt_3 : List UInt8 := [27, 50, 25, 4, 165, 0, 6, 25, 4, 176, 1, 176]
abbrev dktJ36_removeAt_3 : List UInt8 := dkwJ36_removeAt_3 ++ []
def dkwJ36_removeAt_2 : List UInt8 := [83, 42, 27, 25, 4, 182, 0, 133, 44, 27, 50, 25, 4, 166, 0, 21, 42, 27, 25, 4, 182, 0, 100, 44]
abbrev dktJ36_removeAt_2 : List UInt8 := dkwJ36_removeAt_2 ++ dktJ36_removeAt_3
def dkwJ36_removeAt_1 : List UInt8 := [181, 0, 58, 62, 29, 27, 160, 0, 10, 44, 27, 1, 83, 167, 0, 45, 44, 29, 50, 58, 4, 44, 29, 1]
abbrev dktJ36_removeAt_1 : List UInt8 := dkwJ36_removeAt_1 ++ dktJ36_removeAt_2
def dkwJ36_removeAt_0 : List UInt8 := [42, 180, 0, 17, 77, 42, 89, 180, 0, 93, 4, 96, 181, 0, 93, 42, 89, 180, 0, 58, 4, 100, 90]
abbrev dktJ36_removeAt_0 : List UInt8 := dkwJ36_removeAt_0 ++ dktJ36_removeAt_1
theorem dksJ36_removeAt_0 : cJ36_removeAt.data.toList.drop 0 = dktJ36_removeAt_0 := by decide +kernel
theorem dksJ36_removeAt_1 : cJ36_removeAt.data.toList.drop 23 = dktJ36_removeAt_1 := dk_seg dksJ36_removeAt_0 23 rfl rfl
theorem dksJ36_removeAt_2 : cJ36_removeAt.data.toList.drop 47 = dktJ36_removeAt_2 := dk_seg dksJ36_removeAt_1 24 rfl rfl
theorem dksJ36_removeAt_3 : cJ36_removeAt.data.toList.drop 71 = dktJ36_removeAt_3 := dk_seg dksJ36_removeAt_2 24 rfl rfl
theorem dJ36_removeAt_0 : decode cJ36_removeAt 0 = .ok (.aload_n 0, 1) := dk_42 (dk_at dksJ36_removeAt_0 0 rfl rfl)
theorem dJ36_removeAt_1 : decode cJ36_removeAt 1 = .ok (.getfield 17, 3) := dk_180 0 17 (dk_at dksJ36_removeAt_0 1 rfl rfl)
theorem dJ36_removeAt_4 : decode cJ36_removeAt 4 = .ok (.astore_n 2, 1) := dk_77 (dk_at dksJ36_removeAt_0 4 rfl rfl)
theorem dJ36_removeAt_5 : decode cJ36_removeAt 5 = .ok (.aload_n 0, 1) := dk_42 (dk_at dksJ36_removeAt_0 5 rfl rfl)
theorem dJ36_removeAt_6 : decode cJ36_removeAt 6 = .ok (.dup, 1) := dk_89 (dk_at dksJ36_removeAt_0 6 rfl rfl)
theorem dJ36_removeAt_7 : decode cJ36_removeAt 7 = .ok (.getfield 93, 3) := dk_180 0 93 (dk_at dksJ36_removeAt_0 7 rfl rfl)
theorem dJ36_removeAt_10 : decode cJ36_removeAt 10 = .ok (.iconst 1, 1) := dk_4 (dk_at dksJ36_removeAt_0 10 rfl rfl)
theorem dJ36_removeAt_11 : decode cJ36_removeAt 11 = .ok (.iadd, 1) := dk_96 (dk_at dksJ36_removeAt_0 11 rfl rfl)
theorem dJ36_removeAt_12 : decode cJ36_removeAt 12 = .ok (.putfield 93, 3) := dk_181 0 93 (dk_at dksJ36_removeAt_0 12 rfl rfl)
theorem dJ36_removeAt_15 : decode cJ36_removeAt 15 = .ok (.aload_n 0, 1) := dk_42 (dk_at dksJ36_removeAt_0 15 rfl rfl)
theorem dJ36_removeAt_16 : decode cJ36_removeAt 16 = .ok (.dup, 1) := dk_89 (dk_at dksJ36_removeAt_0 16 rfl rfl)
theorem dJ36_removeAt_17 : decode cJ36_removeAt 17 = .ok (.getfield 58, 3) := dk_180 0 58 (dk_at dksJ36_removeAt_0 17 rfl rfl)
theorem dJ36_removeAt_20 : decode cJ36_removeAt 20 = .ok (.iconst 1, 1) := dk_4 (dk_at dksJ36_removeAt_0 20 rfl rfl)
theorem dJ36_removeAt_21 : decode cJ36_removeAt 21 = .ok (.isub, 1) := dk_100 (dk_at dksJ36_removeAt_0 21 rfl rfl)
theorem dJ36_removeAt_22 : decode cJ36_removeAt 22 = .ok (.dup_x1, 1) := dk_90 (dk_at dksJ36_removeAt_0 22 rfl rfl)
theorem dJ36_removeAt_23 : decode cJ36_removeAt 23 = .ok (.putfield 58, 3) := dk_181 0 58 (dk_at dksJ36_removeAt_1 0 rfl rfl)
theorem dJ36_removeAt_26 : decode cJ36_removeAt 26 = .ok (.istore_n 3, 1) := dk_62 (dk_at dksJ36_removeAt_1 3 rfl rfl)
theorem dJ36_removeAt_27 : decode cJ36_removeAt 27 = .ok (.iload_n 3, 1) := dk_29 (dk_at dksJ36_removeAt_1 4 rfl rfl)
theorem dJ36_removeAt_28 : decode cJ36_removeAt 28 = .ok (.iload_n 1, 1) := dk_27 (dk_at dksJ36_removeAt_1 5 rfl rfl)
theorem dJ36_removeAt_29 : decode cJ36_removeAt 29 = .ok (.if_icmp .ne 10, 3) := dk_160 0 10 (dk_at dksJ36_removeAt_1 6 rfl rfl)
theorem dJ36_removeAt_32 : decode cJ36_removeAt 32 = .ok (.aload_n 2, 1) := dk_44 (dk_at dksJ36_removeAt_1 9 rfl rfl)
theorem dJ36_removeAt_33 : decode cJ36_removeAt 33 = .ok (.iload_n 1, 1) := dk_27 (dk_at dksJ36_removeAt_1 10 rfl rfl)
theorem dJ36_removeAt_34 : decode cJ36_removeAt 34 = .ok (.aconst_null, 1) := dk_1 (dk_at dksJ36_removeAt_1 11 rfl rfl)
theorem dJ36_removeAt_35 : decode cJ36_removeAt 35 = .ok (.aastore, 1) := dk_83 (dk_at dksJ36_removeAt_1 12 rfl rfl)
theorem dJ36_removeAt_36 : decode cJ36_removeAt 36 = .ok (.goto 45, 3) := dk_167 0 45 (dk_at dksJ36_removeAt_1 13 rfl rfl)
theorem dJ36_removeAt_39 : decode cJ36_removeAt 39 = .ok (.aload_n 2, 1) := dk_44 (dk_at dksJ36_removeAt_1 16 rfl rfl)
theorem dJ36_removeAt_40 : decode cJ36_removeAt 40 = .ok (.iload_n 3, 1) := dk_29 (dk_at dksJ36_removeAt_1 17 rfl rfl)
theorem dJ36_removeAt_41 : decode cJ36_removeAt 41 = .ok (.aaload, 1) := dk_50 (dk_at dksJ36_removeAt_1 18 rfl rfl)
theorem dJ36_removeAt_42 : decode cJ36_removeAt 42 = .ok (.astore 4, 2) := dk_58 4 (dk_at dksJ36_removeAt_1 19 rfl rfl)
theorem dJ36_removeAt_44 : decode cJ36_removeAt 44 = .ok (.aload_n 2, 1) := dk_44 (dk_at dksJ36_removeAt_1 21 rfl rfl)
theorem dJ36_removeAt_45 : decode cJ36_removeAt 45 = .ok (.iload_n 3, 1) := dk_29 (dk_at dksJ36_removeAt_1 22 rfl rfl)
theorem dJ36_removeAt_46 : decode cJ36_removeAt 46 = .ok (.aconst_null, 1) := dk_1 (dk_at dksJ36_removeAt_1 23 rfl rfl)
theorem dJ36_removeAt_47 : decode cJ36_removeAt 47 = .ok (.aastore, 1) := dk_83 (dk_at dksJ36_removeAt_2 0 rfl rfl)
theorem dJ36_removeAt_48 : decode cJ36_removeAt 48 = .ok (.aload_n 0, 1) := dk_42 (dk_at dksJ36_removeAt_2 1 rfl rfl)
theorem dJ36_removeAt_49 : decode cJ36_removeAt 49 = .ok (.iload_n 1, 1) := dk_27 (dk_at dksJ36_removeAt_2 2 rfl rfl)
theorem dJ36_removeAt_50 : decode cJ36_removeAt 50 = .ok (.aload 4, 2) := dk_25 4 (dk_at dksJ36_removeAt_2 3 rfl rfl)
theorem dJ36_removeAt_52 : decode cJ36_removeAt 52 = .ok (.invokevirtual 133, 3) := dk_182 0 133 (dk_at dksJ36_removeAt_2 5 rfl rfl)
theorem dJ36_removeAt_55 : decode cJ36_removeAt 55 = .ok (.aload_n 2, 1) := dk_44 (dk_at dksJ36_removeAt_2 8 rfl rfl)
theorem dJ36_removeAt_56 : decode cJ36_removeAt 56 = .ok (.iload_n 1, 1) := dk_27 (dk_at dksJ36_removeAt_2 9 rfl rfl)
theorem dJ36_removeAt_57 : decode cJ36_removeAt 57 = .ok (.aaload, 1) := dk_50 (dk_at dksJ36_removeAt_2 10 rfl rfl)
theorem dJ36_removeAt_58 : decode cJ36_removeAt 58 = .ok (.aload 4, 2) := dk_25 4 (dk_at dksJ36_removeAt_2 11 rfl rfl)
theorem dJ36_removeAt_60 : decode cJ36_removeAt 60 = .ok (.if_acmp .ne 21, 3) := dk_166 0 21 (dk_at dksJ36_removeAt_2 13 rfl rfl)
theorem dJ36_removeAt_63 : decode cJ36_removeAt 63 = .ok (.aload_n 0, 1) := dk_42 (dk_at dksJ36_removeAt_2 16 rfl rfl)
theorem dJ36_removeAt_64 : decode cJ36_removeAt 64 = .ok (.iload_n 1, 1) := dk_27 (dk_at dksJ36_removeAt_2 17 rfl rfl)
theorem dJ36_removeAt_65 : decode cJ36_removeAt 65 = .ok (.aload 4, 2) := dk_25 4 (dk_at dksJ36_removeAt_2 18 rfl rfl)
theorem dJ36_removeAt_67 : decode cJ36_removeAt 67 = .ok (.invokevirtual 100, 3) := dk_182 0 100 (dk_at dksJ36_removeAt_2 20 rfl rfl)
theorem dJ36_removeAt_70 : decode cJ36_removeAt 70 = .ok (.aload_n 2, 1) := dk_44 (dk_at dksJ36_removeAt_2 23 rfl rfl)
theorem dJ36_removeAt_71 : decode cJ36_removeAt 71 = .ok (.iload_n 1, 1) := dk_27 (dk_at dksJ36_removeAt_3 0 rfl rfl)
theorem dJ36_removeAt_72 : decode cJ36_removeAt 72 = .ok (.aaload, 1) := dk_50 (dk_at dksJ36_removeAt_3 1 rfl rfl)
theorem dJ36_removeAt_73 : decode cJ36_removeAt 73 = .ok (.aload 4, 2) := dk_25 4 (dk_at dksJ36_removeAt_3 2 rfl rfl)
theorem dJ36_removeAt_75 : decode cJ36_removeAt 75 = .ok (.if_acmp .eq 6, 3) := dk_165 0 6 (dk_at dksJ36_removeAt_3 4 rfl rfl)
theorem dJ36_removeAt_78 : decode cJ36_removeAt 78 = .ok (.aload 4, 2) := dk_25 4 (dk_at dksJ36_removeAt_3 7 rfl rfl)
theorem dJ36_removeAt_80 : decode cJ36_removeAt 80 = .ok (.areturn, 1) := dk_176 (dk_at dksJ36_removeAt_3 9 rfl rfl)
theorem dJ36_removeAt_81 : decode cJ36_removeAt 81 = .ok (.aconst_null, 1) := dk_1 (dk_at dksJ36_removeAt_3 10 rfl rfl)
theorem dJ36_removeAt_82 : decode cJ36_removeAt 82 = .ok (.areturn, 1) := dk_176 (dk_at dksJ36_removeAt_3 11 rfl rfl)
abbrev cJ36_siftDown : ByteArray := prog_71_method_30_code
def yJ36_siftDown : MethodName := ⟨RJ36, "siftDown", "(ILjava/lang/Object;)V"⟩
def dkwJ36_siftDown_1 : List UInt8 := [167, 0, 16, 27, 44, 42, 180, 0, 17, 42, 180, 0, 58, 184, 0, 125, 177]
abbrev dktJ36_siftDown_1 : List UInt8 := dkwJ36_siftDown_1 ++ []
def dkwJ36_siftDown_0 : List UInt8 := [42, 180, 0, 21, 198, 0, 23, 27, 44, 42, 180, 0, 17, 42, 180, 0, 58, 42, 180, 0, 21, 184, 0, 129]
abbrev dktJ36_siftDown_0 : List UInt8 := dkwJ36_siftDown_0 ++ dktJ36_siftDown_1
theorem dksJ36_siftDown_0 : cJ36_siftDown.data.toList.drop 0 = dktJ36_siftDown_0 := by decide +kernel
theorem dksJ36_siftDown_1 : cJ36_siftDown.data.toList.drop 24 = dktJ36_siftDown_1 := dk_seg dksJ36_siftDown_0 24 rfl rfl
theorem dJ36_siftDown_0 : decode cJ36_siftDown 0 = .ok (.aload_n 0, 1) := dk_42 (dk_at dksJ36_siftDown_0 0 rfl rfl)
theorem dJ36_siftDown_1 : decode cJ36_siftDown 1 = .ok (.getfield 21, 3) := dk_180 0 21 (dk_at dksJ36_siftDown_0 1 rfl rfl)
theorem dJ36_siftDown_4 : decode cJ36_siftDown 4 = .ok (.ifnull 23, 3) := dk_198 0 23 (dk_at dksJ36_siftDown_0 4 rfl rfl)
theorem dJ36_siftDown_7 : decode cJ36_siftDown 7 = .ok (.iload_n 1, 1) := dk_27 (dk_at dksJ36_siftDown_0 7 rfl rfl)
theorem dJ36_siftDown_8 : decode cJ36_siftDown 8 = .ok (.aload_n 2, 1) := dk_44 (dk_at dksJ36_siftDown_0 8 rfl rfl)
theorem dJ36_siftDown_9 : decode cJ36_siftDown 9 = .ok (.aload_n 0, 1) := dk_42 (dk_at dksJ36_siftDown_0 9 rfl rfl)
theorem dJ36_siftDown_10 : decode cJ36_siftDown 10 = .ok (.getfield 17, 3) := dk_180 0 17 (dk_at dksJ36_siftDown_0 10 rfl rfl)
theorem dJ36_siftDown_13 : decode cJ36_siftDown 13 = .ok (.aload_n 0, 1) := dk_42 (dk_at dksJ36_siftDown_0 13 rfl rfl)
theorem dJ36_siftDown_14 : decode cJ36_siftDown 14 = .ok (.getfield 58, 3) := dk_180 0 58 (dk_at dksJ36_siftDown_0 14 rfl rfl)
theorem dJ36_siftDown_17 : decode cJ36_siftDown 17 = .ok (.aload_n 0, 1) := dk_42 (dk_at dksJ36_siftDown_0 17 rfl rfl)
theorem dJ36_siftDown_18 : decode cJ36_siftDown 18 = .ok (.getfield 21, 3) := dk_180 0 21 (dk_at dksJ36_siftDown_0 18 rfl rfl)
theorem dJ36_siftDown_21 : decode cJ36_siftDown 21 = .ok (.invokestatic 129, 3) := dk_184 0 129 (dk_at dksJ36_siftDown_0 21 rfl rfl)
theorem dJ36_siftDown_24 : decode cJ36_siftDown 24 = .ok (.goto 16, 3) := dk_167 0 16 (dk_at dksJ36_siftDown_1 0 rfl rfl)
theorem dJ36_siftDown_27 : decode cJ36_siftDown 27 = .ok (.iload_n 1, 1) := dk_27 (dk_at dksJ36_siftDown_1 3 rfl rfl)
theorem dJ36_siftDown_28 : decode cJ36_siftDown 28 = .ok (.aload_n 2, 1) := dk_44 (dk_at dksJ36_siftDown_1 4 rfl rfl)
theorem dJ36_siftDown_29 : decode cJ36_siftDown 29 = .ok (.aload_n 0, 1) := dk_42 (dk_at dksJ36_siftDown_1 5 rfl rfl)
theorem dJ36_siftDown_30 : decode cJ36_siftDown 30 = .ok (.getfield 17, 3) := dk_180 0 17 (dk_at dksJ36_siftDown_1 6 rfl rfl)
theorem dJ36_siftDown_33 : decode cJ36_siftDown 33 = .ok (.aload_n 0, 1) := dk_42 (dk_at dksJ36_siftDown_1 9 rfl rfl)
theorem dJ36_siftDown_34 : decode cJ36_siftDown 34 = .ok (.getfield 58, 3) := dk_180 0 58 (dk_at dksJ36_siftDown_1 10 rfl rfl)
theorem dJ36_siftDown_37 : decode cJ36_siftDown 37 = .ok (.invokestatic 125, 3) := dk_184 0 125 (dk_at dksJ36_siftDown_1 13 rfl rfl)
theorem dJ36_siftDown_40 : decode cJ36_siftDown 40 = .ok (.return_, 1) := dk_177 (dk_at dksJ36_siftDown_1 16 rfl rfl)
theorem q171 : (Jvm.Cond.initialized "java/util/PriorityQueue") ∈ lw_all := lw_g (lw_at lw_m1 49 rfl) rfl
theorem q370 : (Jvm.Cond.selects "java/util/PriorityQueue" ({ cls := "java/lang/Object", name := "getClass", desc := "()Ljava/lang/Class;" } : Jvm.MethodName) ({ cls := "java/lang/Object", name := "getClass", desc := "()Ljava/lang/Class;" } : Jvm.MethodName)) ∈ lw_all := lw_g (lw_at lw_m2 8 rfl) rfl
theorem q1306 : (Jvm.Cond.instantiable "java/util/PriorityQueue" (4 : Nat)) ∈ lw_all := lw_g (lw_at lw_m5 224 rfl) rfl
theorem q1316 : (Jvm.Cond.instanceMethod ({ cls := "java/util/PriorityQueue", name := "<init>", desc := "(ILjava/util/Comparator;)V" } : Jvm.MethodName)) ∈ lw_all := lw_g (lw_at lw_m5 234 rfl) rfl
theorem q1317 : (Jvm.Cond.code ({ cls := "java/util/PriorityQueue", name := "<init>", desc := "(ILjava/util/Comparator;)V" } : Jvm.MethodName) prog_71_method_4_code (3 : Nat) (Option.none : Option Jvm.ClassFile.FieldType)) ∈ lw_all := lw_g (lw_at lw_m5 235 rfl) rfl
theorem q1318 : (Jvm.Cond.methodLink "java/util/PriorityQueue" (7 : Nat) ({ cls := "java/util/AbstractQueue", name := "<init>", desc := "()V" } : Jvm.MethodName)) ∈ lw_all := lw_g (lw_at lw_m5 236 rfl) rfl
theorem q1322 : (Jvm.Cond.classLink "java/util/PriorityQueue" (12 : Nat) "java/lang/IllegalArgumentException") ∈ lw_all := lw_g (lw_at lw_m6 0 rfl) rfl
theorem q1331 : (Jvm.Cond.methodLink "java/util/PriorityQueue" (14 : Nat) ({ cls := "java/lang/IllegalArgumentException", name := "<init>", desc := "()V" } : Jvm.MethodName)) ∈ lw_all := lw_g (lw_at lw_m6 9 rfl) rfl
theorem q1337 : (Jvm.Cond.classLink "java/util/PriorityQueue" (15 : Nat) "java/lang/Object") ∈ lw_all := lw_g (lw_at lw_m6 15 rfl) rfl
theorem q1339 : (Jvm.Cond.fieldLink "java/util/PriorityQueue" (17 : Nat) "java/util/PriorityQueue" "queue" "[Ljava/lang/Object;") ∈ lw_all := lw_g (lw_at lw_m6 17 rfl) rfl
theorem q1341 : (Jvm.Cond.fieldLink "java/util/PriorityQueue" (58 : Nat) "java/util/PriorityQueue" "size" "I") ∈ lw_all := lw_g (lw_at lw_m6 19 rfl) rfl
theorem q1342 : (Jvm.Cond.fieldLink "java/util/PriorityQueue" (21 : Nat) "java/util/PriorityQueue" "comparator" "Ljava/util/Comparator;") ∈ lw_all := lw_g (lw_at lw_m6 20 rfl) rfl
theorem q1344 : (Jvm.Cond.fieldLink "java/util/PriorityQueue" (93 : Nat) "java/util/PriorityQueue" "modCount" "I") ∈ lw_all := lw_g (lw_at lw_m6 22 rfl) rfl
theorem q1345 : (Jvm.Cond.lays "java/util/PriorityQueue" "java/util/PriorityQueue" "queue" "[Ljava/lang/Object;") ∈ lw_all := lw_g (lw_at lw_m6 23 rfl) rfl
theorem q1346 : (Jvm.Cond.soleField "java/util/PriorityQueue" "queue") ∈ lw_all := lw_g (lw_at lw_m6 24 rfl) rfl
theorem q1347 : (Jvm.Cond.lays "java/util/PriorityQueue" "java/util/PriorityQueue" "size" "I") ∈ lw_all := lw_g (lw_at lw_m6 25 rfl) rfl
theorem q1348 : (Jvm.Cond.soleField "java/util/PriorityQueue" "size") ∈ lw_all := lw_g (lw_at lw_m6 26 rfl) rfl
theorem q1349 : (Jvm.Cond.laysFinal "java/util/PriorityQueue" "java/util/PriorityQueue" "comparator" "Ljava/util/Comparator;") ∈ lw_all := lw_g (lw_at lw_m6 27 rfl) rfl
theorem q1350 : (Jvm.Cond.soleField "java/util/PriorityQueue" "comparator") ∈ lw_all := lw_g (lw_at lw_m6 28 rfl) rfl
theorem q1351 : (Jvm.Cond.lays "java/util/PriorityQueue" "java/util/PriorityQueue" "modCount" "I") ∈ lw_all := lw_g (lw_at lw_m6 29 rfl) rfl
theorem q1352 : (Jvm.Cond.soleField "java/util/PriorityQueue" "modCount") ∈ lw_all := lw_g (lw_at lw_m6 30 rfl) rfl
theorem q1353 : (Jvm.Cond.superclass "java/util/PriorityQueue" "java/util/AbstractQueue") ∈ lw_all := lw_g (lw_at lw_m6 31 rfl) rfl
theorem q1424 : (Jvm.Cond.castable "java/util/PriorityQueue" "java/util/Collection") ∈ lw_tbl := lw_at lw_m6 102 rfl
theorem q1425 : (Jvm.Cond.selects "java/util/PriorityQueue" ({ cls := "java/util/Collection", name := "toArray", desc := "()[Ljava/lang/Object;" } : Jvm.MethodName) ({ cls := "java/util/PriorityQueue", name := "toArray", desc := "()[Ljava/lang/Object;" } : Jvm.MethodName)) ∈ lw_all := lw_g (lw_at lw_m6 103 rfl) rfl
theorem q1426 : (Jvm.Cond.unhidden "java/util/PriorityQueue" "toArray" "()[Ljava/lang/Object;") ∈ lw_tbl := lw_at lw_m6 104 rfl
theorem q1427 : (Jvm.Cond.instanceMethod ({ cls := "java/util/PriorityQueue", name := "toArray", desc := "()[Ljava/lang/Object;" } : Jvm.MethodName)) ∈ lw_all := lw_g (lw_at lw_m6 105 rfl) rfl
theorem q1428 : (Jvm.Cond.publicMethod ({ cls := "java/util/PriorityQueue", name := "toArray", desc := "()[Ljava/lang/Object;" } : Jvm.MethodName)) ∈ lw_tbl := lw_at lw_m6 106 rfl
theorem q1429 : (Jvm.Cond.code ({ cls := "java/util/PriorityQueue", name := "toArray", desc := "()[Ljava/lang/Object;" } : Jvm.MethodName) prog_71_method_20_code (1 : Nat) (Option.some (Jvm.ClassFile.FieldType.array (Jvm.ClassFile.FieldType.object "java/lang/Object")))) ∈ lw_all := lw_g (lw_at lw_m6 107 rfl) rfl
theorem q1430 : (Jvm.Cond.methodLink "java/util/PriorityQueue" (86 : Nat) ({ cls := "java/util/Arrays", name := "copyOf", desc := "([Ljava/lang/Object;I)[Ljava/lang/Object;" } : Jvm.MethodName)) ∈ lw_all := lw_g (lw_at lw_m6 108 rfl) rfl
theorem q1441 : (Jvm.Cond.selects "java/util/PriorityQueue" ({ cls := "java/util/AbstractCollection", name := "size", desc := "()I" } : Jvm.MethodName) ({ cls := "java/util/PriorityQueue", name := "size", desc := "()I" } : Jvm.MethodName)) ∈ lw_all := lw_g (lw_at lw_m6 119 rfl) rfl
theorem q1442 : (Jvm.Cond.instanceMethod ({ cls := "java/util/PriorityQueue", name := "size", desc := "()I" } : Jvm.MethodName)) ∈ lw_all := lw_g (lw_at lw_m6 120 rfl) rfl
theorem q1443 : (Jvm.Cond.code ({ cls := "java/util/PriorityQueue", name := "size", desc := "()I" } : Jvm.MethodName) prog_71_method_23_code (1 : Nat) (Option.some Jvm.ClassFile.FieldType.int)) ∈ lw_all := lw_g (lw_at lw_m6 121 rfl) rfl
theorem q1483 : (Jvm.Cond.selects "java/util/PriorityQueue" ({ cls := "java/util/AbstractCollection", name := "iterator", desc := "()Ljava/util/Iterator;" } : Jvm.MethodName) ({ cls := "java/util/PriorityQueue", name := "iterator", desc := "()Ljava/util/Iterator;" } : Jvm.MethodName)) ∈ lw_all := lw_g (lw_at lw_m6 161 rfl) rfl
theorem q1484 : (Jvm.Cond.instanceMethod ({ cls := "java/util/PriorityQueue", name := "iterator", desc := "()Ljava/util/Iterator;" } : Jvm.MethodName)) ∈ lw_all := lw_g (lw_at lw_m6 162 rfl) rfl
theorem q1485 : (Jvm.Cond.code ({ cls := "java/util/PriorityQueue", name := "iterator", desc := "()Ljava/util/Iterator;" } : Jvm.MethodName) prog_71_method_22_code (1 : Nat) (Option.some (Jvm.ClassFile.FieldType.object "java/util/Iterator"))) ∈ lw_all := lw_g (lw_at lw_m6 163 rfl) rfl
theorem q1486 : (Jvm.Cond.classLink "java/util/PriorityQueue" (121 : Nat) "java/util/PriorityQueue$Itr") ∈ lw_all := lw_g (lw_at lw_m6 164 rfl) rfl
theorem q1488 : (Jvm.Cond.methodLink "java/util/PriorityQueue" (123 : Nat) ({ cls := "java/util/PriorityQueue$Itr", name := "<init>", desc := "(Ljava/util/PriorityQueue;)V" } : Jvm.MethodName)) ∈ lw_all := lw_g (lw_at lw_m6 166 rfl) rfl
theorem q1535 : (Jvm.Cond.unhidden "java/util/PriorityQueue" "getClass" "()Ljava/lang/Class;") ∈ lw_tbl := lw_at lw_m6 213 rfl
theorem q2011 : (Jvm.Cond.instanceMethod ({ cls := "java/util/PriorityQueue", name := "add", desc := "(Ljava/lang/Object;)Z" } : Jvm.MethodName)) ∈ lw_all := lw_g (lw_at lw_m8 209 rfl) rfl
theorem q2012 : (Jvm.Cond.selects "java/util/PriorityQueue" ({ cls := "java/util/PriorityQueue", name := "add", desc := "(Ljava/lang/Object;)Z" } : Jvm.MethodName) ({ cls := "java/util/PriorityQueue", name := "add", desc := "(Ljava/lang/Object;)Z" } : Jvm.MethodName)) ∈ lw_all := lw_g (lw_at lw_m8 210 rfl) rfl
theorem q2013 : (Jvm.Cond.code ({ cls := "java/util/PriorityQueue", name := "add", desc := "(Ljava/lang/Object;)Z" } : Jvm.MethodName) prog_71_method_13_code (2 : Nat) (Option.some Jvm.ClassFile.FieldType.boolean)) ∈ lw_all := lw_g (lw_at lw_m8 211 rfl) rfl
theorem q2014 : (Jvm.Cond.methodLink "java/util/PriorityQueue" (89 : Nat) ({ cls := "java/util/PriorityQueue", name := "offer", desc := "(Ljava/lang/Object;)Z" } : Jvm.MethodName)) ∈ lw_all := lw_g (lw_at lw_m8 212 rfl) rfl
theorem q2015 : (Jvm.Cond.instanceMethod ({ cls := "java/util/PriorityQueue", name := "offer", desc := "(Ljava/lang/Object;)Z" } : Jvm.MethodName)) ∈ lw_all := lw_g (lw_at lw_m8 213 rfl) rfl
theorem q2016 : (Jvm.Cond.selects "java/util/PriorityQueue" ({ cls := "java/util/PriorityQueue", name := "offer", desc := "(Ljava/lang/Object;)Z" } : Jvm.MethodName) ({ cls := "java/util/PriorityQueue", name := "offer", desc := "(Ljava/lang/Object;)Z" } : Jvm.MethodName)) ∈ lw_all := lw_g (lw_at lw_m8 214 rfl) rfl
theorem q2017 : (Jvm.Cond.code ({ cls := "java/util/PriorityQueue", name := "offer", desc := "(Ljava/lang/Object;)Z" } : Jvm.MethodName) prog_71_method_14_code (3 : Nat) (Option.some Jvm.ClassFile.FieldType.boolean)) ∈ lw_all := lw_g (lw_at lw_m8 215 rfl) rfl
theorem q2018 : (Jvm.Cond.methodLink "java/util/PriorityQueue" (96 : Nat) ({ cls := "java/util/PriorityQueue", name := "grow", desc := "(I)V" } : Jvm.MethodName)) ∈ lw_all := lw_g (lw_at lw_m8 216 rfl) rfl
theorem q2019 : (Jvm.Cond.privateMethod ({ cls := "java/util/PriorityQueue", name := "grow", desc := "(I)V" } : Jvm.MethodName)) ∈ lw_tbl := lw_at lw_m8 217 rfl
theorem q2020 : (Jvm.Cond.instanceMethod ({ cls := "java/util/PriorityQueue", name := "grow", desc := "(I)V" } : Jvm.MethodName)) ∈ lw_all := lw_g (lw_at lw_m8 218 rfl) rfl
theorem q2021 : (Jvm.Cond.code ({ cls := "java/util/PriorityQueue", name := "grow", desc := "(I)V" } : Jvm.MethodName) prog_71_method_12_code (4 : Nat) (Option.none : Option Jvm.ClassFile.FieldType)) ∈ lw_all := lw_g (lw_at lw_m8 219 rfl) rfl
theorem q2022 : (Jvm.Cond.methodLink "java/util/PriorityQueue" (80 : Nat) ({ cls := "jdk/internal/util/ArraysSupport", name := "newLength", desc := "(III)I" } : Jvm.MethodName)) ∈ lw_all := lw_g (lw_at lw_m8 220 rfl) rfl
theorem q2023 : (Jvm.Cond.methodLink "java/util/PriorityQueue" (100 : Nat) ({ cls := "java/util/PriorityQueue", name := "siftUp", desc := "(ILjava/lang/Object;)V" } : Jvm.MethodName)) ∈ lw_all := lw_g (lw_at lw_m8 221 rfl) rfl
theorem q2024 : (Jvm.Cond.privateMethod ({ cls := "java/util/PriorityQueue", name := "siftUp", desc := "(ILjava/lang/Object;)V" } : Jvm.MethodName)) ∈ lw_tbl := lw_at lw_m8 222 rfl
theorem q2025 : (Jvm.Cond.instanceMethod ({ cls := "java/util/PriorityQueue", name := "siftUp", desc := "(ILjava/lang/Object;)V" } : Jvm.MethodName)) ∈ lw_all := lw_g (lw_at lw_m8 223 rfl) rfl
theorem q2026 : (Jvm.Cond.code ({ cls := "java/util/PriorityQueue", name := "siftUp", desc := "(ILjava/lang/Object;)V" } : Jvm.MethodName) prog_71_method_27_code (3 : Nat) (Option.none : Option Jvm.ClassFile.FieldType)) ∈ lw_all := lw_g (lw_at lw_m8 224 rfl) rfl
theorem q2027 : (Jvm.Cond.methodLink "java/util/PriorityQueue" (136 : Nat) ({ cls := "java/util/PriorityQueue", name := "siftUpUsingComparator", desc := "(ILjava/lang/Object;[Ljava/lang/Object;Ljava/util/Comparator;)V" } : Jvm.MethodName)) ∈ lw_all := lw_g (lw_at lw_m8 225 rfl) rfl
theorem q2028 : (Jvm.Cond.static ({ cls := "java/util/PriorityQueue", name := "siftUpUsingComparator", desc := "(ILjava/lang/Object;[Ljava/lang/Object;Ljava/util/Comparator;)V" } : Jvm.MethodName)) ∈ lw_all := lw_g (lw_at lw_m8 226 rfl) rfl
theorem q2029 : (Jvm.Cond.code ({ cls := "java/util/PriorityQueue", name := "siftUpUsingComparator", desc := "(ILjava/lang/Object;[Ljava/lang/Object;Ljava/util/Comparator;)V" } : Jvm.MethodName) prog_71_method_29_code (6 : Nat) (Option.none : Option Jvm.ClassFile.FieldType)) ∈ lw_all := lw_g (lw_at lw_m8 227 rfl) rfl
theorem q2030 : (Jvm.Cond.interfaceEntry "java/util/PriorityQueue" (149 : Nat)) ∈ lw_tbl := lw_at lw_m8 228 rfl
theorem q2031 : (Jvm.Cond.methodLink "java/util/PriorityQueue" (149 : Nat) ({ cls := "java/util/Comparator", name := "compare", desc := "(Ljava/lang/Object;Ljava/lang/Object;)I" } : Jvm.MethodName)) ∈ lw_all := lw_g (lw_at lw_m8 229 rfl) rfl
theorem q2032 : (Jvm.Cond.methodLink "java/util/PriorityQueue" (140 : Nat) ({ cls := "java/util/PriorityQueue", name := "siftUpComparable", desc := "(ILjava/lang/Object;[Ljava/lang/Object;)V" } : Jvm.MethodName)) ∈ lw_all := lw_g (lw_at lw_m8 230 rfl) rfl
theorem q2033 : (Jvm.Cond.static ({ cls := "java/util/PriorityQueue", name := "siftUpComparable", desc := "(ILjava/lang/Object;[Ljava/lang/Object;)V" } : Jvm.MethodName)) ∈ lw_all := lw_g (lw_at lw_m8 231 rfl) rfl
theorem q2034 : (Jvm.Cond.code ({ cls := "java/util/PriorityQueue", name := "siftUpComparable", desc := "(ILjava/lang/Object;[Ljava/lang/Object;)V" } : Jvm.MethodName) prog_71_method_28_code (6 : Nat) (Option.none : Option Jvm.ClassFile.FieldType)) ∈ lw_all := lw_g (lw_at lw_m8 232 rfl) rfl
theorem q2035 : (Jvm.Cond.classLink "java/util/PriorityQueue" (144 : Nat) "java/lang/Comparable") ∈ lw_all := lw_g (lw_at lw_m8 233 rfl) rfl
theorem q2036 : (Jvm.Cond.interfaceEntry "java/util/PriorityQueue" (146 : Nat)) ∈ lw_tbl := lw_at lw_m8 234 rfl
theorem q2037 : (Jvm.Cond.methodLink "java/util/PriorityQueue" (146 : Nat) ({ cls := "java/lang/Comparable", name := "compareTo", desc := "(Ljava/lang/Object;)I" } : Jvm.MethodName)) ∈ lw_all := lw_g (lw_at lw_m8 235 rfl) rfl
theorem q2039 : (Jvm.Cond.sameMethod "java/util/PriorityQueue" "java/util/AbstractCollection" "isEmpty" "()Z") ∈ lw_all := lw_g (lw_at lw_m8 237 rfl) rfl
theorem q2041 : (Jvm.Cond.selects "java/util/PriorityQueue" ({ cls := "java/util/PriorityQueue", name := "isEmpty", desc := "()Z" } : Jvm.MethodName) ({ cls := "java/util/AbstractCollection", name := "isEmpty", desc := "()Z" } : Jvm.MethodName)) ∈ lw_all := lw_g (lw_at lw_m8 239 rfl) rfl
theorem q2045 : (Jvm.Cond.instanceMethod ({ cls := "java/util/PriorityQueue", name := "poll", desc := "()Ljava/lang/Object;" } : Jvm.MethodName)) ∈ lw_all := lw_g (lw_at lw_m9 3 rfl) rfl
theorem q2046 : (Jvm.Cond.selects "java/util/PriorityQueue" ({ cls := "java/util/PriorityQueue", name := "poll", desc := "()Ljava/lang/Object;" } : Jvm.MethodName) ({ cls := "java/util/PriorityQueue", name := "poll", desc := "()Ljava/lang/Object;" } : Jvm.MethodName)) ∈ lw_all := lw_g (lw_at lw_m9 4 rfl) rfl
theorem q2047 : (Jvm.Cond.code ({ cls := "java/util/PriorityQueue", name := "poll", desc := "()Ljava/lang/Object;" } : Jvm.MethodName) prog_71_method_25_code (6 : Nat) (Option.some (Jvm.ClassFile.FieldType.object "java/lang/Object"))) ∈ lw_all := lw_g (lw_at lw_m9 5 rfl) rfl
theorem q2048 : (Jvm.Cond.methodLink "java/util/PriorityQueue" (125 : Nat) ({ cls := "java/util/PriorityQueue", name := "siftDownComparable", desc := "(ILjava/lang/Object;[Ljava/lang/Object;I)V" } : Jvm.MethodName)) ∈ lw_all := lw_g (lw_at lw_m9 6 rfl) rfl
theorem q2049 : (Jvm.Cond.static ({ cls := "java/util/PriorityQueue", name := "siftDownComparable", desc := "(ILjava/lang/Object;[Ljava/lang/Object;I)V" } : Jvm.MethodName)) ∈ lw_all := lw_g (lw_at lw_m9 7 rfl) rfl
theorem q2050 : (Jvm.Cond.code ({ cls := "java/util/PriorityQueue", name := "siftDownComparable", desc := "(ILjava/lang/Object;[Ljava/lang/Object;I)V" } : Jvm.MethodName) prog_71_method_31_code (9 : Nat) (Option.none : Option Jvm.ClassFile.FieldType)) ∈ lw_all := lw_g (lw_at lw_m9 8 rfl) rfl
theorem q2051 : (Jvm.Cond.methodLink "java/util/PriorityQueue" (129 : Nat) ({ cls := "java/util/PriorityQueue", name := "siftDownUsingComparator", desc := "(ILjava/lang/Object;[Ljava/lang/Object;ILjava/util/Comparator;)V" } : Jvm.MethodName)) ∈ lw_all := lw_g (lw_at lw_m9 9 rfl) rfl
theorem q2052 : (Jvm.Cond.static ({ cls := "java/util/PriorityQueue", name := "siftDownUsingComparator", desc := "(ILjava/lang/Object;[Ljava/lang/Object;ILjava/util/Comparator;)V" } : Jvm.MethodName)) ∈ lw_all := lw_g (lw_at lw_m9 10 rfl) rfl
theorem q2053 : (Jvm.Cond.code ({ cls := "java/util/PriorityQueue", name := "siftDownUsingComparator", desc := "(ILjava/lang/Object;[Ljava/lang/Object;ILjava/util/Comparator;)V" } : Jvm.MethodName) prog_71_method_32_code (9 : Nat) (Option.none : Option Jvm.ClassFile.FieldType)) ∈ lw_all := lw_g (lw_at lw_m9 11 rfl) rfl
theorem q2067 : (Jvm.Cond.instanceMethod ({ cls := "java/util/PriorityQueue", name := "remove", desc := "(Ljava/lang/Object;)Z" } : Jvm.MethodName)) ∈ lw_all := lw_g (lw_at lw_m9 25 rfl) rfl
theorem q2068 : (Jvm.Cond.selects "java/util/PriorityQueue" ({ cls := "java/util/PriorityQueue", name := "remove", desc := "(Ljava/lang/Object;)Z" } : Jvm.MethodName) ({ cls := "java/util/PriorityQueue", name := "remove", desc := "(Ljava/lang/Object;)Z" } : Jvm.MethodName)) ∈ lw_all := lw_g (lw_at lw_m9 26 rfl) rfl
theorem q2069 : (Jvm.Cond.code ({ cls := "java/util/PriorityQueue", name := "remove", desc := "(Ljava/lang/Object;)Z" } : Jvm.MethodName) prog_71_method_17_code (3 : Nat) (Option.some Jvm.ClassFile.FieldType.boolean)) ∈ lw_all := lw_g (lw_at lw_m9 27 rfl) rfl
theorem q2070 : (Jvm.Cond.methodLink "java/util/PriorityQueue" (107 : Nat) ({ cls := "java/util/PriorityQueue", name := "indexOf", desc := "(Ljava/lang/Object;)I" } : Jvm.MethodName)) ∈ lw_all := lw_g (lw_at lw_m9 28 rfl) rfl
theorem q2071 : (Jvm.Cond.privateMethod ({ cls := "java/util/PriorityQueue", name := "indexOf", desc := "(Ljava/lang/Object;)I" } : Jvm.MethodName)) ∈ lw_tbl := lw_at lw_m9 29 rfl
theorem q2072 : (Jvm.Cond.instanceMethod ({ cls := "java/util/PriorityQueue", name := "indexOf", desc := "(Ljava/lang/Object;)I" } : Jvm.MethodName)) ∈ lw_all := lw_g (lw_at lw_m9 30 rfl) rfl
theorem q2073 : (Jvm.Cond.code ({ cls := "java/util/PriorityQueue", name := "indexOf", desc := "(Ljava/lang/Object;)I" } : Jvm.MethodName) prog_71_method_16_code (5 : Nat) (Option.some Jvm.ClassFile.FieldType.int)) ∈ lw_all := lw_g (lw_at lw_m9 31 rfl) rfl
theorem q2074 : (Jvm.Cond.methodLink "java/util/PriorityQueue" (104 : Nat) ({ cls := "java/lang/Object", name := "equals", desc := "(Ljava/lang/Object;)Z" } : Jvm.MethodName)) ∈ lw_all := lw_g (lw_at lw_m9 32 rfl) rfl
theorem q2075 : (Jvm.Cond.methodLink "java/util/PriorityQueue" (111 : Nat) ({ cls := "java/util/PriorityQueue", name := "removeAt", desc := "(I)Ljava/lang/Object;" } : Jvm.MethodName)) ∈ lw_all := lw_g (lw_at lw_m9 33 rfl) rfl
theorem q2076 : (Jvm.Cond.instanceMethod ({ cls := "java/util/PriorityQueue", name := "removeAt", desc := "(I)Ljava/lang/Object;" } : Jvm.MethodName)) ∈ lw_all := lw_g (lw_at lw_m9 34 rfl) rfl
theorem q2077 : (Jvm.Cond.selects "java/util/PriorityQueue" ({ cls := "java/util/PriorityQueue", name := "removeAt", desc := "(I)Ljava/lang/Object;" } : Jvm.MethodName) ({ cls := "java/util/PriorityQueue", name := "removeAt", desc := "(I)Ljava/lang/Object;" } : Jvm.MethodName)) ∈ lw_all := lw_g (lw_at lw_m9 35 rfl) rfl
theorem q2078 : (Jvm.Cond.code ({ cls := "java/util/PriorityQueue", name := "removeAt", desc := "(I)Ljava/lang/Object;" } : Jvm.MethodName) prog_71_method_26_code (5 : Nat) (Option.some (Jvm.ClassFile.FieldType.object "java/lang/Object"))) ∈ lw_all := lw_g (lw_at lw_m9 36 rfl) rfl
theorem q2079 : (Jvm.Cond.methodLink "java/util/PriorityQueue" (133 : Nat) ({ cls := "java/util/PriorityQueue", name := "siftDown", desc := "(ILjava/lang/Object;)V" } : Jvm.MethodName)) ∈ lw_all := lw_g (lw_at lw_m9 37 rfl) rfl
theorem q2080 : (Jvm.Cond.privateMethod ({ cls := "java/util/PriorityQueue", name := "siftDown", desc := "(ILjava/lang/Object;)V" } : Jvm.MethodName)) ∈ lw_tbl := lw_at lw_m9 38 rfl
theorem q2081 : (Jvm.Cond.instanceMethod ({ cls := "java/util/PriorityQueue", name := "siftDown", desc := "(ILjava/lang/Object;)V" } : Jvm.MethodName)) ∈ lw_all := lw_g (lw_at lw_m9 39 rfl) rfl
theorem q2082 : (Jvm.Cond.code ({ cls := "java/util/PriorityQueue", name := "siftDown", desc := "(ILjava/lang/Object;)V" } : Jvm.MethodName) prog_71_method_30_code (3 : Nat) (Option.none : Option Jvm.ClassFile.FieldType)) ∈ lw_all := lw_g (lw_at lw_m9 40 rfl) rfl
theorem q3484 : (Jvm.Cond.castable "java/util/PriorityQueue" "java/lang/Object") ∈ lw_tbl := lw_at lw_m15 2 rfl
theorem in_J36 : ∀ w ∈ wsJ360, w ∈ lw_all := lw_in wsJ360 [1345, 1347, 1349, 1351] (by decide +kernel) (by decide +kernel)

/-! java/util/TreeSet -/
set_option maxRecDepth 100000
def RJ37 : String := "java/util/TreeSet"
def TJ37 : u_T := fun k => match k with
  | _ => ("java/util/TreeSet", "m", "Ljava/util/NavigableMap;", false)
def tyJ37 : Nat → FieldType := fun k => match k with
  | _ => .object "java/util/NavigableMap"
abbrev wsJ370 : List Cond := u_ws RJ37 TJ37 1
theorem nmJ37 : ∀ a, a < 1 → ∀ b, b < 1 → a ≠ b → (TJ37 a).2.1 ≠ (TJ37 b).2.1 := by decide +kernel
theorem tyJ37_ok : ∀ k, k < 1 → parseFieldDescriptor (TJ37 k).2.2.1 = some (tyJ37 k) := by decide +kernel
abbrev cJ37_iterator : ByteArray := prog_89_method_6_code
def yJ37_iterator : MethodName := ⟨RJ37, "iterator", "()Ljava/util/Iterator;"⟩
def dkwJ37_iterator_0 : List UInt8 := [42, 180, 0, 7, 185, 0, 34, 1, 0, 185, 0, 40, 1, 0, 176]
abbrev dktJ37_iterator_0 : List UInt8 := dkwJ37_iterator_0 ++ []
theorem dksJ37_iterator_0 : cJ37_iterator.data.toList.drop 0 = dktJ37_iterator_0 := by decide +kernel
theorem dJ37_iterator_0 : decode cJ37_iterator 0 = .ok (.aload_n 0, 1) := dk_42 (dk_at dksJ37_iterator_0 0 rfl rfl)
theorem dJ37_iterator_1 : decode cJ37_iterator 1 = .ok (.getfield 7, 3) := dk_180 0 7 (dk_at dksJ37_iterator_0 1 rfl rfl)
theorem dJ37_iterator_4 : decode cJ37_iterator 4 = .ok (.invokeinterface 34 1, 5) := by decide +kernel
theorem dJ37_iterator_9 : decode cJ37_iterator 9 = .ok (.invokeinterface 40 1, 5) := by decide +kernel
theorem dJ37_iterator_14 : decode cJ37_iterator 14 = .ok (.areturn, 1) := dk_176 (dk_at dksJ37_iterator_0 14 rfl rfl)
abbrev cJ37_init : ByteArray := prog_89_method_2_code
def yJ37_init : MethodName := ⟨RJ37, "<init>", "()V"⟩
def dkwJ37_init_0 : List UInt8 := [42, 187, 0, 13, 89, 183, 0, 15, 183, 0, 16, 177]
abbrev dktJ37_init_0 : List UInt8 := dkwJ37_init_0 ++ []
theorem dksJ37_init_0 : cJ37_init.data.toList.drop 0 = dktJ37_init_0 := by decide +kernel
theorem dJ37_init_0 : decode cJ37_init 0 = .ok (.aload_n 0, 1) := dk_42 (dk_at dksJ37_init_0 0 rfl rfl)
theorem dJ37_init_1 : decode cJ37_init 1 = .ok (.new 13, 3) := dk_187 0 13 (dk_at dksJ37_init_0 1 rfl rfl)
theorem dJ37_init_4 : decode cJ37_init 4 = .ok (.dup, 1) := dk_89 (dk_at dksJ37_init_0 4 rfl rfl)
theorem dJ37_init_5 : decode cJ37_init 5 = .ok (.invokespecial 15, 3) := dk_183 0 15 (dk_at dksJ37_init_0 5 rfl rfl)
theorem dJ37_init_8 : decode cJ37_init 8 = .ok (.invokespecial 16, 3) := dk_183 0 16 (dk_at dksJ37_init_0 8 rfl rfl)
theorem dJ37_init_11 : decode cJ37_init 11 = .ok (.return_, 1) := dk_177 (dk_at dksJ37_init_0 11 rfl rfl)
abbrev cJ37_init_2 : ByteArray := prog_89_method_1_code
def yJ37_init_2 : MethodName := ⟨RJ37, "<init>", "(Ljava/util/NavigableMap;)V"⟩
def dkwJ37_init_2_0 : List UInt8 := [42, 183, 0, 1, 42, 43, 181, 0, 7, 177]
abbrev dktJ37_init_2_0 : List UInt8 := dkwJ37_init_2_0 ++ []
theorem dksJ37_init_2_0 : cJ37_init_2.data.toList.drop 0 = dktJ37_init_2_0 := by decide +kernel
theorem dJ37_init_2_0 : decode cJ37_init_2 0 = .ok (.aload_n 0, 1) := dk_42 (dk_at dksJ37_init_2_0 0 rfl rfl)
theorem dJ37_init_2_1 : decode cJ37_init_2 1 = .ok (.invokespecial 1, 3) := dk_183 0 1 (dk_at dksJ37_init_2_0 1 rfl rfl)
theorem dJ37_init_2_4 : decode cJ37_init_2 4 = .ok (.aload_n 0, 1) := dk_42 (dk_at dksJ37_init_2_0 4 rfl rfl)
theorem dJ37_init_2_5 : decode cJ37_init_2 5 = .ok (.aload_n 1, 1) := dk_43 (dk_at dksJ37_init_2_0 5 rfl rfl)
theorem dJ37_init_2_6 : decode cJ37_init_2 6 = .ok (.putfield 7, 3) := dk_181 0 7 (dk_at dksJ37_init_2_0 6 rfl rfl)
theorem dJ37_init_2_9 : decode cJ37_init_2 9 = .ok (.return_, 1) := dk_177 (dk_at dksJ37_init_2_0 9 rfl rfl)
abbrev cJ37_add : ByteArray := prog_89_method_12_code
def yJ37_add : MethodName := ⟨RJ37, "add", "(Ljava/lang/Object;)Z"⟩
def dkwJ37_add_0 : List UInt8 := [42, 180, 0, 7, 43, 178, 0, 65, 185, 0, 69, 3, 0, 199, 0, 7, 4, 167, 0, 4, 3, 172]
abbrev dktJ37_add_0 : List UInt8 := dkwJ37_add_0 ++ []
theorem dksJ37_add_0 : cJ37_add.data.toList.drop 0 = dktJ37_add_0 := by decide +kernel
theorem dJ37_add_0 : decode cJ37_add 0 = .ok (.aload_n 0, 1) := dk_42 (dk_at dksJ37_add_0 0 rfl rfl)
theorem dJ37_add_1 : decode cJ37_add 1 = .ok (.getfield 7, 3) := dk_180 0 7 (dk_at dksJ37_add_0 1 rfl rfl)
theorem dJ37_add_4 : decode cJ37_add 4 = .ok (.aload_n 1, 1) := dk_43 (dk_at dksJ37_add_0 4 rfl rfl)
theorem dJ37_add_5 : decode cJ37_add 5 = .ok (.getstatic 65, 3) := dk_178 0 65 (dk_at dksJ37_add_0 5 rfl rfl)
theorem dJ37_add_8 : decode cJ37_add 8 = .ok (.invokeinterface 69 3, 5) := by decide +kernel
theorem dJ37_add_13 : decode cJ37_add 13 = .ok (.ifnonnull 7, 3) := dk_199 0 7 (dk_at dksJ37_add_0 13 rfl rfl)
theorem dJ37_add_16 : decode cJ37_add 16 = .ok (.iconst 1, 1) := dk_4 (dk_at dksJ37_add_0 16 rfl rfl)
theorem dJ37_add_17 : decode cJ37_add 17 = .ok (.goto 4, 3) := dk_167 0 4 (dk_at dksJ37_add_0 17 rfl rfl)
theorem dJ37_add_20 : decode cJ37_add 20 = .ok (.iconst 0, 1) := dk_3 (dk_at dksJ37_add_0 20 rfl rfl)
theorem dJ37_add_21 : decode cJ37_add 21 = .ok (.ireturn, 1) := dk_172 (dk_at dksJ37_add_0 21 rfl rfl)
abbrev cJ37_size : ByteArray := prog_89_method_9_code
def yJ37_size : MethodName := ⟨RJ37, "size", "()I"⟩
def dkwJ37_size_0 : List UInt8 := [42, 180, 0, 7, 185, 0, 53, 1, 0, 172]
abbrev dktJ37_size_0 : List UInt8 := dkwJ37_size_0 ++ []
theorem dksJ37_size_0 : cJ37_size.data.toList.drop 0 = dktJ37_size_0 := by decide +kernel
theorem dJ37_size_0 : decode cJ37_size 0 = .ok (.aload_n 0, 1) := dk_42 (dk_at dksJ37_size_0 0 rfl rfl)
theorem dJ37_size_1 : decode cJ37_size 1 = .ok (.getfield 7, 3) := dk_180 0 7 (dk_at dksJ37_size_0 1 rfl rfl)
theorem dJ37_size_4 : decode cJ37_size 4 = .ok (.invokeinterface 53 1, 5) := by decide +kernel
theorem dJ37_size_9 : decode cJ37_size 9 = .ok (.ireturn, 1) := dk_172 (dk_at dksJ37_size_0 9 rfl rfl)
theorem q174 : (Jvm.Cond.initialized "java/util/TreeSet") ∈ lw_all := lw_g (lw_at lw_m1 52 rfl) rfl
theorem q378 : (Jvm.Cond.selects "java/util/TreeSet" ({ cls := "java/lang/Object", name := "getClass", desc := "()Ljava/lang/Class;" } : Jvm.MethodName) ({ cls := "java/lang/Object", name := "getClass", desc := "()Ljava/lang/Class;" } : Jvm.MethodName)) ∈ lw_all := lw_g (lw_at lw_m2 16 rfl) rfl
theorem q887 : (Jvm.Cond.castable "java/util/TreeSet" "java/util/Set") ∈ lw_tbl := lw_at lw_m4 45 rfl
theorem q888 : (Jvm.Cond.selects "java/util/TreeSet" ({ cls := "java/util/Set", name := "iterator", desc := "()Ljava/util/Iterator;" } : Jvm.MethodName) ({ cls := "java/util/TreeSet", name := "iterator", desc := "()Ljava/util/Iterator;" } : Jvm.MethodName)) ∈ lw_all := lw_g (lw_at lw_m4 46 rfl) rfl
theorem q889 : (Jvm.Cond.unhidden "java/util/TreeSet" "iterator" "()Ljava/util/Iterator;") ∈ lw_tbl := lw_at lw_m4 47 rfl
theorem q890 : (Jvm.Cond.instanceMethod ({ cls := "java/util/TreeSet", name := "iterator", desc := "()Ljava/util/Iterator;" } : Jvm.MethodName)) ∈ lw_all := lw_g (lw_at lw_m4 48 rfl) rfl
theorem q891 : (Jvm.Cond.publicMethod ({ cls := "java/util/TreeSet", name := "iterator", desc := "()Ljava/util/Iterator;" } : Jvm.MethodName)) ∈ lw_tbl := lw_at lw_m4 49 rfl
theorem q892 : (Jvm.Cond.code ({ cls := "java/util/TreeSet", name := "iterator", desc := "()Ljava/util/Iterator;" } : Jvm.MethodName) prog_89_method_6_code (1 : Nat) (Option.some (Jvm.ClassFile.FieldType.object "java/util/Iterator"))) ∈ lw_all := lw_g (lw_at lw_m4 50 rfl) rfl
theorem q893 : (Jvm.Cond.interfaceEntry "java/util/TreeSet" (34 : Nat)) ∈ lw_tbl := lw_at lw_m4 51 rfl
theorem q894 : (Jvm.Cond.methodLink "java/util/TreeSet" (34 : Nat) ({ cls := "java/util/NavigableMap", name := "navigableKeySet", desc := "()Ljava/util/NavigableSet;" } : Jvm.MethodName)) ∈ lw_all := lw_g (lw_at lw_m4 52 rfl) rfl
theorem q913 : (Jvm.Cond.interfaceEntry "java/util/TreeSet" (40 : Nat)) ∈ lw_tbl := lw_at lw_m4 71 rfl
theorem q914 : (Jvm.Cond.methodLink "java/util/TreeSet" (40 : Nat) ({ cls := "java/util/NavigableSet", name := "iterator", desc := "()Ljava/util/Iterator;" } : Jvm.MethodName)) ∈ lw_all := lw_g (lw_at lw_m4 72 rfl) rfl
theorem q919 : (Jvm.Cond.castable "java/util/TreeSet" "java/util/NavigableSet") ∈ lw_tbl := lw_at lw_m4 77 rfl
theorem q920 : (Jvm.Cond.selects "java/util/TreeSet" ({ cls := "java/util/NavigableSet", name := "iterator", desc := "()Ljava/util/Iterator;" } : Jvm.MethodName) ({ cls := "java/util/TreeSet", name := "iterator", desc := "()Ljava/util/Iterator;" } : Jvm.MethodName)) ∈ lw_all := lw_g (lw_at lw_m4 78 rfl) rfl
theorem q1363 : (Jvm.Cond.instantiable "java/util/TreeSet" (1 : Nat)) ∈ lw_all := lw_g (lw_at lw_m6 41 rfl) rfl
theorem q1365 : (Jvm.Cond.instanceMethod ({ cls := "java/util/TreeSet", name := "<init>", desc := "()V" } : Jvm.MethodName)) ∈ lw_all := lw_g (lw_at lw_m6 43 rfl) rfl
theorem q1366 : (Jvm.Cond.code ({ cls := "java/util/TreeSet", name := "<init>", desc := "()V" } : Jvm.MethodName) prog_89_method_2_code (1 : Nat) (Option.none : Option Jvm.ClassFile.FieldType)) ∈ lw_all := lw_g (lw_at lw_m6 44 rfl) rfl
theorem q1367 : (Jvm.Cond.classLink "java/util/TreeSet" (13 : Nat) "java/util/TreeMap") ∈ lw_all := lw_g (lw_at lw_m6 45 rfl) rfl
theorem q1368 : (Jvm.Cond.methodLink "java/util/TreeSet" (15 : Nat) ({ cls := "java/util/TreeMap", name := "<init>", desc := "()V" } : Jvm.MethodName)) ∈ lw_all := lw_g (lw_at lw_m6 46 rfl) rfl
theorem q1369 : (Jvm.Cond.methodLink "java/util/TreeSet" (16 : Nat) ({ cls := "java/util/TreeSet", name := "<init>", desc := "(Ljava/util/NavigableMap;)V" } : Jvm.MethodName)) ∈ lw_all := lw_g (lw_at lw_m6 47 rfl) rfl
theorem q1370 : (Jvm.Cond.instanceMethod ({ cls := "java/util/TreeSet", name := "<init>", desc := "(Ljava/util/NavigableMap;)V" } : Jvm.MethodName)) ∈ lw_all := lw_g (lw_at lw_m6 48 rfl) rfl
theorem q1371 : (Jvm.Cond.code ({ cls := "java/util/TreeSet", name := "<init>", desc := "(Ljava/util/NavigableMap;)V" } : Jvm.MethodName) prog_89_method_1_code (2 : Nat) (Option.none : Option Jvm.ClassFile.FieldType)) ∈ lw_all := lw_g (lw_at lw_m6 49 rfl) rfl
theorem q1372 : (Jvm.Cond.methodLink "java/util/TreeSet" (1 : Nat) ({ cls := "java/util/AbstractSet", name := "<init>", desc := "()V" } : Jvm.MethodName)) ∈ lw_all := lw_g (lw_at lw_m6 50 rfl) rfl
theorem q1373 : (Jvm.Cond.fieldLink "java/util/TreeSet" (7 : Nat) "java/util/TreeSet" "m" "Ljava/util/NavigableMap;") ∈ lw_all := lw_g (lw_at lw_m6 51 rfl) rfl
theorem q1374 : (Jvm.Cond.lays "java/util/TreeSet" "java/util/TreeSet" "m" "Ljava/util/NavigableMap;") ∈ lw_all := lw_g (lw_at lw_m6 52 rfl) rfl
theorem q1375 : (Jvm.Cond.soleField "java/util/TreeSet" "m") ∈ lw_all := lw_g (lw_at lw_m6 53 rfl) rfl
theorem q1376 : (Jvm.Cond.superclass "java/util/TreeSet" "java/util/AbstractSet") ∈ lw_all := lw_g (lw_at lw_m6 54 rfl) rfl
theorem q1391 : (Jvm.Cond.instanceMethod ({ cls := "java/util/TreeSet", name := "add", desc := "(Ljava/lang/Object;)Z" } : Jvm.MethodName)) ∈ lw_all := lw_g (lw_at lw_m6 69 rfl) rfl
theorem q1392 : (Jvm.Cond.selects "java/util/TreeSet" ({ cls := "java/util/TreeSet", name := "add", desc := "(Ljava/lang/Object;)Z" } : Jvm.MethodName) ({ cls := "java/util/TreeSet", name := "add", desc := "(Ljava/lang/Object;)Z" } : Jvm.MethodName)) ∈ lw_all := lw_g (lw_at lw_m6 70 rfl) rfl
theorem q1393 : (Jvm.Cond.code ({ cls := "java/util/TreeSet", name := "add", desc := "(Ljava/lang/Object;)Z" } : Jvm.MethodName) prog_89_method_12_code (2 : Nat) (Option.some Jvm.ClassFile.FieldType.boolean)) ∈ lw_all := lw_g (lw_at lw_m6 71 rfl) rfl
theorem q1394 : (Jvm.Cond.fieldLink "java/util/TreeSet" (65 : Nat) "java/util/TreeSet" "PRESENT" "Ljava/lang/Object;") ∈ lw_all := lw_g (lw_at lw_m6 72 rfl) rfl
theorem q1395 : (Jvm.Cond.laysStatic "java/util/TreeSet" "PRESENT" "Ljava/lang/Object;") ∈ lw_tbl := lw_at lw_m6 73 rfl
theorem q1396 : (Jvm.Cond.interfaceEntry "java/util/TreeSet" (69 : Nat)) ∈ lw_tbl := lw_at lw_m6 74 rfl
theorem q1453 : (Jvm.Cond.selects "java/util/TreeSet" ({ cls := "java/util/AbstractCollection", name := "size", desc := "()I" } : Jvm.MethodName) ({ cls := "java/util/TreeSet", name := "size", desc := "()I" } : Jvm.MethodName)) ∈ lw_all := lw_g (lw_at lw_m6 131 rfl) rfl
theorem q1454 : (Jvm.Cond.instanceMethod ({ cls := "java/util/TreeSet", name := "size", desc := "()I" } : Jvm.MethodName)) ∈ lw_all := lw_g (lw_at lw_m6 132 rfl) rfl
theorem q1455 : (Jvm.Cond.code ({ cls := "java/util/TreeSet", name := "size", desc := "()I" } : Jvm.MethodName) prog_89_method_9_code (1 : Nat) (Option.some Jvm.ClassFile.FieldType.int)) ∈ lw_all := lw_g (lw_at lw_m6 133 rfl) rfl
theorem q1456 : (Jvm.Cond.interfaceEntry "java/util/TreeSet" (53 : Nat)) ∈ lw_tbl := lw_at lw_m6 134 rfl
theorem q1513 : (Jvm.Cond.selects "java/util/TreeSet" ({ cls := "java/util/AbstractCollection", name := "iterator", desc := "()Ljava/util/Iterator;" } : Jvm.MethodName) ({ cls := "java/util/TreeSet", name := "iterator", desc := "()Ljava/util/Iterator;" } : Jvm.MethodName)) ∈ lw_all := lw_g (lw_at lw_m6 191 rfl) rfl
theorem q1526 : (Jvm.Cond.castable "java/util/TreeSet" "java/util/Collection") ∈ lw_tbl := lw_at lw_m6 204 rfl
theorem q1527 : (Jvm.Cond.selects "java/util/TreeSet" ({ cls := "java/util/Collection", name := "toArray", desc := "()[Ljava/lang/Object;" } : Jvm.MethodName) ({ cls := "java/util/AbstractCollection", name := "toArray", desc := "()[Ljava/lang/Object;" } : Jvm.MethodName)) ∈ lw_all := lw_g (lw_at lw_m6 205 rfl) rfl
theorem q1528 : (Jvm.Cond.unhidden "java/util/TreeSet" "toArray" "()[Ljava/lang/Object;") ∈ lw_tbl := lw_at lw_m6 206 rfl
theorem q1538 : (Jvm.Cond.unhidden "java/util/TreeSet" "getClass" "()Ljava/lang/Class;") ∈ lw_tbl := lw_at lw_m6 216 rfl
theorem q3487 : (Jvm.Cond.castable "java/util/TreeSet" "java/lang/Object") ∈ lw_tbl := lw_at lw_m15 5 rfl
theorem in_J37 : ∀ w ∈ wsJ370, w ∈ lw_all := lw_in wsJ370 [1374] (by decide +kernel) (by decide +kernel)

/-! java/util/ArrayList$Itr -/
set_option maxRecDepth 100000
def RJ38 : String := "java/util/ArrayList$Itr"
def TJ38 : u_T := fun k => match k with
  | 0 => ("java/util/ArrayList$Itr", "cursor", "I", false)
  | 1 => ("java/util/ArrayList$Itr", "lastRet", "I", false)
  | 2 => ("java/util/ArrayList$Itr", "expectedModCount", "I", false)
  | _ => ("java/util/ArrayList$Itr", "this$0", "Ljava/util/ArrayList;", true)
def tyJ38 : Nat → FieldType := fun k => match k with
  | 0 => .int
  | 1 => .int
  | 2 => .int
  | _ => .object "java/util/ArrayList"
abbrev wsJ380 : List Cond := u_ws RJ38 TJ38 4
theorem nmJ38 : ∀ a, a < 4 → ∀ b, b < 4 → a ≠ b → (TJ38 a).2.1 ≠ (TJ38 b).2.1 := by decide +kernel
theorem tyJ38_ok : ∀ k, k < 4 → parseFieldDescriptor (TJ38 k).2.2.1 = some (tyJ38 k) := by decide +kernel
theorem q176 : (Jvm.Cond.initialized "java/util/ArrayList$Itr") ∈ lw_all := lw_g (lw_at lw_m1 54 rfl) rfl
theorem q254 : (Jvm.Cond.fieldLink "java/util/ArrayList$Itr" (37 : Nat) "java/util/ArrayList" "elementData" "[Ljava/lang/Object;") ∈ lw_all := lw_g (lw_at lw_m1 132 rfl) rfl
theorem q255 : (Jvm.Cond.fieldLinkNest "java/util/ArrayList$Itr" (28 : Nat) "java/util/ArrayList" "size" "I" "java/util/ArrayList") ∈ lw_tbl := lw_at lw_m1 133 rfl
theorem q258 : (Jvm.Cond.fieldLink "java/util/ArrayList$Itr" (17 : Nat) "java/util/ArrayList" "modCount" "I") ∈ lw_all := lw_g (lw_at lw_m1 136 rfl) rfl
theorem q367 : (Jvm.Cond.selects "java/util/ArrayList$Itr" ({ cls := "java/lang/Object", name := "getClass", desc := "()Ljava/lang/Class;" } : Jvm.MethodName) ({ cls := "java/lang/Object", name := "getClass", desc := "()Ljava/lang/Class;" } : Jvm.MethodName)) ∈ lw_all := lw_g (lw_at lw_m2 5 rfl) rfl
theorem q937 : (Jvm.Cond.castable "java/util/ArrayList$Itr" "java/util/Iterator") ∈ lw_tbl := lw_at lw_m4 95 rfl
theorem q938 : (Jvm.Cond.selects "java/util/ArrayList$Itr" ({ cls := "java/util/Iterator", name := "next", desc := "()Ljava/lang/Object;" } : Jvm.MethodName) ({ cls := "java/util/ArrayList$Itr", name := "next", desc := "()Ljava/lang/Object;" } : Jvm.MethodName)) ∈ lw_all := lw_g (lw_at lw_m4 96 rfl) rfl
theorem q939 : (Jvm.Cond.unhidden "java/util/ArrayList$Itr" "next" "()Ljava/lang/Object;") ∈ lw_tbl := lw_at lw_m4 97 rfl
theorem q940 : (Jvm.Cond.instanceMethod ({ cls := "java/util/ArrayList$Itr", name := "next", desc := "()Ljava/lang/Object;" } : Jvm.MethodName)) ∈ lw_all := lw_g (lw_at lw_m4 98 rfl) rfl
theorem q941 : (Jvm.Cond.publicMethod ({ cls := "java/util/ArrayList$Itr", name := "next", desc := "()Ljava/lang/Object;" } : Jvm.MethodName)) ∈ lw_tbl := lw_at lw_m4 99 rfl
theorem q942 : (Jvm.Cond.code ({ cls := "java/util/ArrayList$Itr", name := "next", desc := "()Ljava/lang/Object;" } : Jvm.MethodName) prog_58_method_3_code (3 : Nat) (Option.some (Jvm.ClassFile.FieldType.object "java/lang/Object"))) ∈ lw_all := lw_g (lw_at lw_m4 100 rfl) rfl
theorem q943 : (Jvm.Cond.methodLink "java/util/ArrayList$Itr" (31 : Nat) ({ cls := "java/util/ArrayList$Itr", name := "checkForComodification", desc := "()V" } : Jvm.MethodName)) ∈ lw_all := lw_g (lw_at lw_m4 101 rfl) rfl
theorem q944 : (Jvm.Cond.instanceMethod ({ cls := "java/util/ArrayList$Itr", name := "checkForComodification", desc := "()V" } : Jvm.MethodName)) ∈ lw_all := lw_g (lw_at lw_m4 102 rfl) rfl
theorem q945 : (Jvm.Cond.selects "java/util/ArrayList$Itr" ({ cls := "java/util/ArrayList$Itr", name := "checkForComodification", desc := "()V" } : Jvm.MethodName) ({ cls := "java/util/ArrayList$Itr", name := "checkForComodification", desc := "()V" } : Jvm.MethodName)) ∈ lw_all := lw_g (lw_at lw_m4 103 rfl) rfl
theorem q946 : (Jvm.Cond.code ({ cls := "java/util/ArrayList$Itr", name := "checkForComodification", desc := "()V" } : Jvm.MethodName) prog_58_method_6_code (1 : Nat) (Option.none : Option Jvm.ClassFile.FieldType)) ∈ lw_all := lw_g (lw_at lw_m4 104 rfl) rfl
theorem q947 : (Jvm.Cond.classLink "java/util/ArrayList$Itr" (34 : Nat) "java/util/NoSuchElementException") ∈ lw_all := lw_g (lw_at lw_m4 105 rfl) rfl
theorem q993 : (Jvm.Cond.methodLink "java/util/ArrayList$Itr" (36 : Nat) ({ cls := "java/util/NoSuchElementException", name := "<init>", desc := "()V" } : Jvm.MethodName)) ∈ lw_all := lw_g (lw_at lw_m4 151 rfl) rfl
theorem q1099 : (Jvm.Cond.selects "java/util/ArrayList$Itr" ({ cls := "java/util/Iterator", name := "hasNext", desc := "()Z" } : Jvm.MethodName) ({ cls := "java/util/ArrayList$Itr", name := "hasNext", desc := "()Z" } : Jvm.MethodName)) ∈ lw_all := lw_g (lw_at lw_m5 17 rfl) rfl
theorem q1100 : (Jvm.Cond.unhidden "java/util/ArrayList$Itr" "hasNext" "()Z") ∈ lw_tbl := lw_at lw_m5 18 rfl
theorem q1101 : (Jvm.Cond.instanceMethod ({ cls := "java/util/ArrayList$Itr", name := "hasNext", desc := "()Z" } : Jvm.MethodName)) ∈ lw_all := lw_g (lw_at lw_m5 19 rfl) rfl
theorem q1102 : (Jvm.Cond.publicMethod ({ cls := "java/util/ArrayList$Itr", name := "hasNext", desc := "()Z" } : Jvm.MethodName)) ∈ lw_tbl := lw_at lw_m5 20 rfl
theorem q1103 : (Jvm.Cond.code ({ cls := "java/util/ArrayList$Itr", name := "hasNext", desc := "()Z" } : Jvm.MethodName) prog_58_method_2_code (1 : Nat) (Option.some Jvm.ClassFile.FieldType.boolean)) ∈ lw_all := lw_g (lw_at lw_m5 21 rfl) rfl
theorem q1465 : (Jvm.Cond.instantiable "java/util/ArrayList$Itr" (4 : Nat)) ∈ lw_all := lw_g (lw_at lw_m6 143 rfl) rfl
theorem q1467 : (Jvm.Cond.instanceMethod ({ cls := "java/util/ArrayList$Itr", name := "<init>", desc := "(Ljava/util/ArrayList;)V" } : Jvm.MethodName)) ∈ lw_all := lw_g (lw_at lw_m6 145 rfl) rfl
theorem q1468 : (Jvm.Cond.code ({ cls := "java/util/ArrayList$Itr", name := "<init>", desc := "(Ljava/util/ArrayList;)V" } : Jvm.MethodName) prog_58_method_1_code (2 : Nat) (Option.none : Option Jvm.ClassFile.FieldType)) ∈ lw_all := lw_g (lw_at lw_m6 146 rfl) rfl
theorem q1469 : (Jvm.Cond.methodLink "java/util/ArrayList$Itr" (7 : Nat) ({ cls := "java/lang/Object", name := "<init>", desc := "()V" } : Jvm.MethodName)) ∈ lw_all := lw_g (lw_at lw_m6 147 rfl) rfl
theorem q1470 : (Jvm.Cond.fieldLink "java/util/ArrayList$Itr" (25 : Nat) "java/util/ArrayList$Itr" "cursor" "I") ∈ lw_all := lw_g (lw_at lw_m6 148 rfl) rfl
theorem q1471 : (Jvm.Cond.fieldLink "java/util/ArrayList$Itr" (13 : Nat) "java/util/ArrayList$Itr" "lastRet" "I") ∈ lw_all := lw_g (lw_at lw_m6 149 rfl) rfl
theorem q1472 : (Jvm.Cond.fieldLink "java/util/ArrayList$Itr" (22 : Nat) "java/util/ArrayList$Itr" "expectedModCount" "I") ∈ lw_all := lw_g (lw_at lw_m6 150 rfl) rfl
theorem q1473 : (Jvm.Cond.fieldLink "java/util/ArrayList$Itr" (1 : Nat) "java/util/ArrayList$Itr" "this$0" "Ljava/util/ArrayList;") ∈ lw_all := lw_g (lw_at lw_m6 151 rfl) rfl
theorem q1474 : (Jvm.Cond.lays "java/util/ArrayList$Itr" "java/util/ArrayList$Itr" "cursor" "I") ∈ lw_all := lw_g (lw_at lw_m6 152 rfl) rfl
theorem q1475 : (Jvm.Cond.soleField "java/util/ArrayList$Itr" "cursor") ∈ lw_all := lw_g (lw_at lw_m6 153 rfl) rfl
theorem q1476 : (Jvm.Cond.lays "java/util/ArrayList$Itr" "java/util/ArrayList$Itr" "lastRet" "I") ∈ lw_all := lw_g (lw_at lw_m6 154 rfl) rfl
theorem q1477 : (Jvm.Cond.soleField "java/util/ArrayList$Itr" "lastRet") ∈ lw_all := lw_g (lw_at lw_m6 155 rfl) rfl
theorem q1478 : (Jvm.Cond.lays "java/util/ArrayList$Itr" "java/util/ArrayList$Itr" "expectedModCount" "I") ∈ lw_all := lw_g (lw_at lw_m6 156 rfl) rfl
theorem q1479 : (Jvm.Cond.soleField "java/util/ArrayList$Itr" "expectedModCount") ∈ lw_all := lw_g (lw_at lw_m6 157 rfl) rfl
theorem q1480 : (Jvm.Cond.laysFinal "java/util/ArrayList$Itr" "java/util/ArrayList$Itr" "this$0" "Ljava/util/ArrayList;") ∈ lw_all := lw_g (lw_at lw_m6 158 rfl) rfl
theorem q1481 : (Jvm.Cond.soleField "java/util/ArrayList$Itr" "this$0") ∈ lw_all := lw_g (lw_at lw_m6 159 rfl) rfl
theorem q1482 : (Jvm.Cond.superclass "java/util/ArrayList$Itr" "java/lang/Object") ∈ lw_all := lw_g (lw_at lw_m6 160 rfl) rfl
theorem q3489 : (Jvm.Cond.castable "java/util/ArrayList$Itr" "java/lang/Object") ∈ lw_tbl := lw_at lw_m15 7 rfl
theorem in_J38 : ∀ w ∈ wsJ380, w ∈ lw_all := lw_in wsJ380 [1474, 1476, 1478, 1480] (by decide +kernel) (by decide +kernel)

/-! java/util/PriorityQueue$Itr -/
set_option maxRecDepth 100000
def RJ39 : String := "java/util/PriorityQueue$Itr"
def TJ39 : u_T := fun k => match k with
  | 0 => ("java/util/PriorityQueue$Itr", "cursor", "I", false)
  | 1 => ("java/util/PriorityQueue$Itr", "lastRet", "I", false)
  | 2 => ("java/util/PriorityQueue$Itr", "forgetMeNot", "Ljava/util/ArrayDeque;", false)
  | 3 => ("java/util/PriorityQueue$Itr", "lastRetElt", "Ljava/lang/Object;", false)
  | 4 => ("java/util/PriorityQueue$Itr", "expectedModCount", "I", false)
  | _ => ("java/util/PriorityQueue$Itr", "this$0", "Ljava/util/PriorityQueue;", true)
def tyJ39 : Nat → FieldType := fun k => match k with
  | 0 => .int
  | 1 => .int
  | 2 => .object "java/util/ArrayDeque"
  | 3 => .object "java/lang/Object"
  | 4 => .int
  | _ => .object "java/util/PriorityQueue"
abbrev wsJ390 : List Cond := u_ws RJ39 TJ39 6
theorem nmJ39 : ∀ a, a < 6 → ∀ b, b < 6 → a ≠ b → (TJ39 a).2.1 ≠ (TJ39 b).2.1 := by decide +kernel
theorem tyJ39_ok : ∀ k, k < 6 → parseFieldDescriptor (TJ39 k).2.2.1 = some (tyJ39 k) := by decide +kernel
theorem q177 : (Jvm.Cond.initialized "java/util/PriorityQueue$Itr") ∈ lw_all := lw_g (lw_at lw_m1 55 rfl) rfl
theorem q371 : (Jvm.Cond.selects "java/util/PriorityQueue$Itr" ({ cls := "java/lang/Object", name := "getClass", desc := "()Ljava/lang/Class;" } : Jvm.MethodName) ({ cls := "java/lang/Object", name := "getClass", desc := "()Ljava/lang/Class;" } : Jvm.MethodName)) ∈ lw_all := lw_g (lw_at lw_m2 9 rfl) rfl
theorem q1016 : (Jvm.Cond.castable "java/util/PriorityQueue$Itr" "java/util/Iterator") ∈ lw_tbl := lw_at lw_m4 174 rfl
theorem q1017 : (Jvm.Cond.selects "java/util/PriorityQueue$Itr" ({ cls := "java/util/Iterator", name := "next", desc := "()Ljava/lang/Object;" } : Jvm.MethodName) ({ cls := "java/util/PriorityQueue$Itr", name := "next", desc := "()Ljava/lang/Object;" } : Jvm.MethodName)) ∈ lw_all := lw_g (lw_at lw_m4 175 rfl) rfl
theorem q1018 : (Jvm.Cond.unhidden "java/util/PriorityQueue$Itr" "next" "()Ljava/lang/Object;") ∈ lw_tbl := lw_at lw_m4 176 rfl
theorem q1019 : (Jvm.Cond.instanceMethod ({ cls := "java/util/PriorityQueue$Itr", name := "next", desc := "()Ljava/lang/Object;" } : Jvm.MethodName)) ∈ lw_all := lw_g (lw_at lw_m4 177 rfl) rfl
theorem q1020 : (Jvm.Cond.publicMethod ({ cls := "java/util/PriorityQueue$Itr", name := "next", desc := "()Ljava/lang/Object;" } : Jvm.MethodName)) ∈ lw_tbl := lw_at lw_m4 178 rfl
theorem q1021 : (Jvm.Cond.code ({ cls := "java/util/PriorityQueue$Itr", name := "next", desc := "()Ljava/lang/Object;" } : Jvm.MethodName) prog_72_method_3_code (1 : Nat) (Option.some (Jvm.ClassFile.FieldType.object "java/lang/Object"))) ∈ lw_all := lw_g (lw_at lw_m4 179 rfl) rfl
theorem q1022 : (Jvm.Cond.methodLink "java/util/PriorityQueue$Itr" (48 : Nat) ({ cls := "java/util/ArrayDeque", name := "poll", desc := "()Ljava/lang/Object;" } : Jvm.MethodName)) ∈ lw_all := lw_g (lw_at lw_m4 180 rfl) rfl
theorem q1036 : (Jvm.Cond.classLink "java/util/PriorityQueue$Itr" (56 : Nat) "java/util/NoSuchElementException") ∈ lw_all := lw_g (lw_at lw_m4 194 rfl) rfl
theorem q1037 : (Jvm.Cond.methodLink "java/util/PriorityQueue$Itr" (58 : Nat) ({ cls := "java/util/NoSuchElementException", name := "<init>", desc := "()V" } : Jvm.MethodName)) ∈ lw_all := lw_g (lw_at lw_m4 195 rfl) rfl
theorem q1104 : (Jvm.Cond.selects "java/util/PriorityQueue$Itr" ({ cls := "java/util/Iterator", name := "hasNext", desc := "()Z" } : Jvm.MethodName) ({ cls := "java/util/PriorityQueue$Itr", name := "hasNext", desc := "()Z" } : Jvm.MethodName)) ∈ lw_all := lw_g (lw_at lw_m5 22 rfl) rfl
theorem q1105 : (Jvm.Cond.unhidden "java/util/PriorityQueue$Itr" "hasNext" "()Z") ∈ lw_tbl := lw_at lw_m5 23 rfl
theorem q1106 : (Jvm.Cond.instanceMethod ({ cls := "java/util/PriorityQueue$Itr", name := "hasNext", desc := "()Z" } : Jvm.MethodName)) ∈ lw_all := lw_g (lw_at lw_m5 24 rfl) rfl
theorem q1107 : (Jvm.Cond.publicMethod ({ cls := "java/util/PriorityQueue$Itr", name := "hasNext", desc := "()Z" } : Jvm.MethodName)) ∈ lw_tbl := lw_at lw_m5 25 rfl
theorem q1108 : (Jvm.Cond.code ({ cls := "java/util/PriorityQueue$Itr", name := "hasNext", desc := "()Z" } : Jvm.MethodName) prog_72_method_2_code (1 : Nat) (Option.some Jvm.ClassFile.FieldType.boolean)) ∈ lw_all := lw_g (lw_at lw_m5 26 rfl) rfl
theorem q1109 : (Jvm.Cond.methodLink "java/util/PriorityQueue$Itr" (35 : Nat) ({ cls := "java/util/ArrayDeque", name := "isEmpty", desc := "()Z" } : Jvm.MethodName)) ∈ lw_all := lw_g (lw_at lw_m5 27 rfl) rfl
theorem q1338 : (Jvm.Cond.fieldLink "java/util/PriorityQueue$Itr" (44 : Nat) "java/util/PriorityQueue" "queue" "[Ljava/lang/Object;") ∈ lw_all := lw_g (lw_at lw_m6 16 rfl) rfl
theorem q1340 : (Jvm.Cond.fieldLink "java/util/PriorityQueue$Itr" (28 : Nat) "java/util/PriorityQueue" "size" "I") ∈ lw_all := lw_g (lw_at lw_m6 18 rfl) rfl
theorem q1343 : (Jvm.Cond.fieldLink "java/util/PriorityQueue$Itr" (17 : Nat) "java/util/PriorityQueue" "modCount" "I") ∈ lw_all := lw_g (lw_at lw_m6 21 rfl) rfl
theorem q1487 : (Jvm.Cond.instantiable "java/util/PriorityQueue$Itr" (6 : Nat)) ∈ lw_all := lw_g (lw_at lw_m6 165 rfl) rfl
theorem q1489 : (Jvm.Cond.instanceMethod ({ cls := "java/util/PriorityQueue$Itr", name := "<init>", desc := "(Ljava/util/PriorityQueue;)V" } : Jvm.MethodName)) ∈ lw_all := lw_g (lw_at lw_m6 167 rfl) rfl
theorem q1490 : (Jvm.Cond.code ({ cls := "java/util/PriorityQueue$Itr", name := "<init>", desc := "(Ljava/util/PriorityQueue;)V" } : Jvm.MethodName) prog_72_method_1_code (2 : Nat) (Option.none : Option Jvm.ClassFile.FieldType)) ∈ lw_all := lw_g (lw_at lw_m6 168 rfl) rfl
theorem q1491 : (Jvm.Cond.methodLink "java/util/PriorityQueue$Itr" (7 : Nat) ({ cls := "java/lang/Object", name := "<init>", desc := "()V" } : Jvm.MethodName)) ∈ lw_all := lw_g (lw_at lw_m6 169 rfl) rfl
theorem q1492 : (Jvm.Cond.fieldLink "java/util/PriorityQueue$Itr" (25 : Nat) "java/util/PriorityQueue$Itr" "cursor" "I") ∈ lw_all := lw_g (lw_at lw_m6 170 rfl) rfl
theorem q1493 : (Jvm.Cond.fieldLink "java/util/PriorityQueue$Itr" (13 : Nat) "java/util/PriorityQueue$Itr" "lastRet" "I") ∈ lw_all := lw_g (lw_at lw_m6 171 rfl) rfl
theorem q1494 : (Jvm.Cond.fieldLink "java/util/PriorityQueue$Itr" (31 : Nat) "java/util/PriorityQueue$Itr" "forgetMeNot" "Ljava/util/ArrayDeque;") ∈ lw_all := lw_g (lw_at lw_m6 172 rfl) rfl
theorem q1495 : (Jvm.Cond.fieldLink "java/util/PriorityQueue$Itr" (52 : Nat) "java/util/PriorityQueue$Itr" "lastRetElt" "Ljava/lang/Object;") ∈ lw_all := lw_g (lw_at lw_m6 173 rfl) rfl
theorem q1496 : (Jvm.Cond.fieldLink "java/util/PriorityQueue$Itr" (22 : Nat) "java/util/PriorityQueue$Itr" "expectedModCount" "I") ∈ lw_all := lw_g (lw_at lw_m6 174 rfl) rfl
theorem q1497 : (Jvm.Cond.fieldLink "java/util/PriorityQueue$Itr" (1 : Nat) "java/util/PriorityQueue$Itr" "this$0" "Ljava/util/PriorityQueue;") ∈ lw_all := lw_g (lw_at lw_m6 175 rfl) rfl
theorem q1498 : (Jvm.Cond.lays "java/util/PriorityQueue$Itr" "java/util/PriorityQueue$Itr" "cursor" "I") ∈ lw_all := lw_g (lw_at lw_m6 176 rfl) rfl
theorem q1499 : (Jvm.Cond.soleField "java/util/PriorityQueue$Itr" "cursor") ∈ lw_all := lw_g (lw_at lw_m6 177 rfl) rfl
theorem q1500 : (Jvm.Cond.lays "java/util/PriorityQueue$Itr" "java/util/PriorityQueue$Itr" "lastRet" "I") ∈ lw_all := lw_g (lw_at lw_m6 178 rfl) rfl
theorem q1501 : (Jvm.Cond.soleField "java/util/PriorityQueue$Itr" "lastRet") ∈ lw_all := lw_g (lw_at lw_m6 179 rfl) rfl
theorem q1502 : (Jvm.Cond.lays "java/util/PriorityQueue$Itr" "java/util/PriorityQueue$Itr" "forgetMeNot" "Ljava/util/ArrayDeque;") ∈ lw_all := lw_g (lw_at lw_m6 180 rfl) rfl
theorem q1503 : (Jvm.Cond.soleField "java/util/PriorityQueue$Itr" "forgetMeNot") ∈ lw_all := lw_g (lw_at lw_m6 181 rfl) rfl
theorem q1504 : (Jvm.Cond.lays "java/util/PriorityQueue$Itr" "java/util/PriorityQueue$Itr" "lastRetElt" "Ljava/lang/Object;") ∈ lw_all := lw_g (lw_at lw_m6 182 rfl) rfl
theorem q1505 : (Jvm.Cond.soleField "java/util/PriorityQueue$Itr" "lastRetElt") ∈ lw_all := lw_g (lw_at lw_m6 183 rfl) rfl
theorem q1506 : (Jvm.Cond.lays "java/util/PriorityQueue$Itr" "java/util/PriorityQueue$Itr" "expectedModCount" "I") ∈ lw_all := lw_g (lw_at lw_m6 184 rfl) rfl
theorem q1507 : (Jvm.Cond.soleField "java/util/PriorityQueue$Itr" "expectedModCount") ∈ lw_all := lw_g (lw_at lw_m6 185 rfl) rfl
theorem q1508 : (Jvm.Cond.laysFinal "java/util/PriorityQueue$Itr" "java/util/PriorityQueue$Itr" "this$0" "Ljava/util/PriorityQueue;") ∈ lw_all := lw_g (lw_at lw_m6 186 rfl) rfl
theorem q1509 : (Jvm.Cond.soleField "java/util/PriorityQueue$Itr" "this$0") ∈ lw_all := lw_g (lw_at lw_m6 187 rfl) rfl
theorem q1510 : (Jvm.Cond.superclass "java/util/PriorityQueue$Itr" "java/lang/Object") ∈ lw_all := lw_g (lw_at lw_m6 188 rfl) rfl
theorem q3490 : (Jvm.Cond.castable "java/util/PriorityQueue$Itr" "java/lang/Object") ∈ lw_tbl := lw_at lw_m15 8 rfl
theorem in_J39 : ∀ w ∈ wsJ390, w ∈ lw_all := lw_in wsJ390 [1498, 1500, 1502, 1504, 1506, 1508] (by decide +kernel) (by decide +kernel)

/-! java/util/ArrayList -/
set_option maxRecDepth 100000
def RJ4 : String := "java/util/ArrayList"
def TJ4 : u_T := fun k => match k with
  | 0 => ("java/util/AbstractList", "modCount", "I", false)
  | 1 => ("java/util/ArrayList", "elementData", "[Ljava/lang/Object;", false)
  | _ => ("java/util/ArrayList", "size", "I", false)
def tyJ4 : Nat → FieldType := fun k => match k with
  | 0 => .int
  | 1 => .array (.object "java/lang/Object")
  | _ => .int
abbrev wsJ40 : List Cond := u_ws RJ4 TJ4 3
theorem nmJ4 : ∀ a, a < 3 → ∀ b, b < 3 → a ≠ b → (TJ4 a).2.1 ≠ (TJ4 b).2.1 := by decide +kernel
theorem tyJ4_ok : ∀ k, k < 3 → parseFieldDescriptor (TJ4 k).2.2.1 = some (tyJ4 k) := by decide +kernel
abbrev cJ4_init : ByteArray := prog_57_method_2_code
def yJ4_init : MethodName := ⟨RJ4, "<init>", "()V"⟩
def dkwJ4_init_0 : List UInt8 := [42, 183, 0, 1, 42, 178, 0, 39, 181, 0, 9, 177]
abbrev dktJ4_init_0 : List UInt8 := dkwJ4_init_0 ++ []
theorem dksJ4_init_0 : cJ4_init.data.toList.drop 0 = dktJ4_init_0 := by decide +kernel
theorem dJ4_init_0 : decode cJ4_init 0 = .ok (.aload_n 0, 1) := dk_42 (dk_at dksJ4_init_0 0 rfl rfl)
theorem dJ4_init_1 : decode cJ4_init 1 = .ok (.invokespecial 1, 3) := dk_183 0 1 (dk_at dksJ4_init_0 1 rfl rfl)
theorem dJ4_init_4 : decode cJ4_init 4 = .ok (.aload_n 0, 1) := dk_42 (dk_at dksJ4_init_0 4 rfl rfl)
theorem dJ4_init_5 : decode cJ4_init 5 = .ok (.getstatic 39, 3) := dk_178 0 39 (dk_at dksJ4_init_0 5 rfl rfl)
theorem dJ4_init_8 : decode cJ4_init 8 = .ok (.putfield 9, 3) := dk_181 0 9 (dk_at dksJ4_init_0 8 rfl rfl)
theorem dJ4_init_11 : decode cJ4_init 11 = .ok (.return_, 1) := dk_177 (dk_at dksJ4_init_0 11 rfl rfl)
abbrev cJ4_size : ByteArray := prog_57_method_8_code
def yJ4_size : MethodName := ⟨RJ4, "size", "()I"⟩
theorem dJ4_size_0 : decode cJ4_size 0 = .ok (.aload_n 0, 1) := by decide +kernel
theorem dJ4_size_1 : decode cJ4_size 1 = .ok (.getfield 48, 3) := by decide +kernel
theorem dJ4_size_4 : decode cJ4_size 4 = .ok (.ireturn, 1) := by decide +kernel
abbrev cJ4_get : ByteArray := prog_57_method_20_code
def yJ4_get : MethodName := ⟨RJ4, "get", "(I)Ljava/lang/Object;"⟩
def dkwJ4_get_0 : List UInt8 := [27, 42, 180, 0, 48, 184, 0, 118, 87, 42, 27, 182, 0, 123, 176]
abbrev dktJ4_get_0 : List UInt8 := dkwJ4_get_0 ++ []
theorem dksJ4_get_0 : cJ4_get.data.toList.drop 0 = dktJ4_get_0 := by decide +kernel
theorem dJ4_get_0 : decode cJ4_get 0 = .ok (.iload_n 1, 1) := dk_27 (dk_at dksJ4_get_0 0 rfl rfl)
theorem dJ4_get_1 : decode cJ4_get 1 = .ok (.aload_n 0, 1) := dk_42 (dk_at dksJ4_get_0 1 rfl rfl)
theorem dJ4_get_2 : decode cJ4_get 2 = .ok (.getfield 48, 3) := dk_180 0 48 (dk_at dksJ4_get_0 2 rfl rfl)
theorem dJ4_get_5 : decode cJ4_get 5 = .ok (.invokestatic 118, 3) := dk_184 0 118 (dk_at dksJ4_get_0 5 rfl rfl)
theorem dJ4_get_8 : decode cJ4_get 8 = .ok (.pop, 1) := dk_87 (dk_at dksJ4_get_0 8 rfl rfl)
theorem dJ4_get_9 : decode cJ4_get 9 = .ok (.aload_n 0, 1) := dk_42 (dk_at dksJ4_get_0 9 rfl rfl)
theorem dJ4_get_10 : decode cJ4_get 10 = .ok (.iload_n 1, 1) := dk_27 (dk_at dksJ4_get_0 10 rfl rfl)
theorem dJ4_get_11 : decode cJ4_get 11 = .ok (.invokevirtual 123, 3) := dk_182 0 123 (dk_at dksJ4_get_0 11 rfl rfl)
theorem dJ4_get_14 : decode cJ4_get 14 = .ok (.areturn, 1) := dk_176 (dk_at dksJ4_get_0 14 rfl rfl)
abbrev cJ4_elementData : ByteArray := prog_57_method_18_code
def yJ4_elementData : MethodName := ⟨RJ4, "elementData", "(I)Ljava/lang/Object;"⟩
def dkwJ4_elementData_0 : List UInt8 := [42, 180, 0, 9, 27, 50, 176]
abbrev dktJ4_elementData_0 : List UInt8 := dkwJ4_elementData_0 ++ []
theorem dksJ4_elementData_0 : cJ4_elementData.data.toList.drop 0 = dktJ4_elementData_0 := by decide +kernel
theorem dJ4_elementData_0 : decode cJ4_elementData 0 = .ok (.aload_n 0, 1) := dk_42 (dk_at dksJ4_elementData_0 0 rfl rfl)
theorem dJ4_elementData_1 : decode cJ4_elementData 1 = .ok (.getfield 9, 3) := dk_180 0 9 (dk_at dksJ4_elementData_0 1 rfl rfl)
theorem dJ4_elementData_4 : decode cJ4_elementData 4 = .ok (.iload_n 1, 1) := dk_27 (dk_at dksJ4_elementData_0 4 rfl rfl)
theorem dJ4_elementData_5 : decode cJ4_elementData 5 = .ok (.aaload, 1) := dk_50 (dk_at dksJ4_elementData_0 5 rfl rfl)
theorem dJ4_elementData_6 : decode cJ4_elementData 6 = .ok (.areturn, 1) := dk_176 (dk_at dksJ4_elementData_0 6 rfl rfl)
abbrev cJ4_add : ByteArray := prog_57_method_25_code
def yJ4_add : MethodName := ⟨RJ4, "add", "(Ljava/lang/Object;)Z"⟩
def dkwJ4_add_1 : List UInt8 := [172]
abbrev dktJ4_add_1 : List UInt8 := dkwJ4_add_1 ++ []
def dkwJ4_add_0 : List UInt8 := [42, 89, 180, 0, 63, 4, 96, 181, 0, 63, 42, 43, 42, 180, 0, 9, 42, 180, 0, 48, 182, 0, 131, 4]
abbrev dktJ4_add_0 : List UInt8 := dkwJ4_add_0 ++ dktJ4_add_1
theorem dksJ4_add_0 : cJ4_add.data.toList.drop 0 = dktJ4_add_0 := by decide +kernel
theorem dksJ4_add_1 : cJ4_add.data.toList.drop 24 = dktJ4_add_1 := dk_seg dksJ4_add_0 24 rfl rfl
theorem dJ4_add_0 : decode cJ4_add 0 = .ok (.aload_n 0, 1) := dk_42 (dk_at dksJ4_add_0 0 rfl rfl)
theorem dJ4_add_1 : decode cJ4_add 1 = .ok (.dup, 1) := dk_89 (dk_at dksJ4_add_0 1 rfl rfl)
theorem dJ4_add_2 : decode cJ4_add 2 = .ok (.getfield 63, 3) := dk_180 0 63 (dk_at dksJ4_add_0 2 rfl rfl)
theorem dJ4_add_5 : decode cJ4_add 5 = .ok (.iconst 1, 1) := dk_4 (dk_at dksJ4_add_0 5 rfl rfl)
theorem dJ4_add_6 : decode cJ4_add 6 = .ok (.iadd, 1) := dk_96 (dk_at dksJ4_add_0 6 rfl rfl)
theorem dJ4_add_7 : decode cJ4_add 7 = .ok (.putfield 63, 3) := dk_181 0 63 (dk_at dksJ4_add_0 7 rfl rfl)
theorem dJ4_add_10 : decode cJ4_add 10 = .ok (.aload_n 0, 1) := dk_42 (dk_at dksJ4_add_0 10 rfl rfl)
theorem dJ4_add_11 : decode cJ4_add 11 = .ok (.aload_n 1, 1) := dk_43 (dk_at dksJ4_add_0 11 rfl rfl)
theorem dJ4_add_12 : decode cJ4_add 12 = .ok (.aload_n 0, 1) := dk_42 (dk_at dksJ4_add_0 12 rfl rfl)
theorem dJ4_add_13 : decode cJ4_add 13 = .ok (.getfield 9, 3) := dk_180 0 9 (dk_at dksJ4_add_0 13 rfl rfl)
theorem dJ4_add_16 : decode cJ4_add 16 = .ok (.aload_n 0, 1) := dk_42 (dk_at dksJ4_add_0 16 rfl rfl)
theorem dJ4_add_17 : decode cJ4_add 17 = .ok (.getfield 48, 3) := dk_180 0 48 (dk_at dksJ4_add_0 17 rfl rfl)
theorem dJ4_add_20 : decode cJ4_add 20 = .ok (.invokevirtual 131, 3) := dk_182 0 131 (dk_at dksJ4_add_0 20 rfl rfl)
theorem dJ4_add_23 : decode cJ4_add 23 = .ok (.iconst 1, 1) := dk_4 (dk_at dksJ4_add_0 23 rfl rfl)
theorem dJ4_add_24 : decode cJ4_add 24 = .ok (.ireturn, 1) := dk_172 (dk_at dksJ4_add_1 0 rfl rfl)
abbrev cJ4_add_2 : ByteArray := prog_57_method_24_code
def yJ4_add_2 : MethodName := ⟨RJ4, "add", "(Ljava/lang/Object;[Ljava/lang/Object;I)V"⟩
def dkwJ4_add_2_0 : List UInt8 := [29, 44, 190, 160, 0, 8, 42, 182, 0, 129, 77, 44, 29, 43, 83, 42, 29, 4, 96, 181, 0, 48, 177]
abbrev dktJ4_add_2_0 : List UInt8 := dkwJ4_add_2_0 ++ []
theorem dksJ4_add_2_0 : cJ4_add_2.data.toList.drop 0 = dktJ4_add_2_0 := by decide +kernel
theorem dJ4_add_2_0 : decode cJ4_add_2 0 = .ok (.iload_n 3, 1) := dk_29 (dk_at dksJ4_add_2_0 0 rfl rfl)
theorem dJ4_add_2_1 : decode cJ4_add_2 1 = .ok (.aload_n 2, 1) := dk_44 (dk_at dksJ4_add_2_0 1 rfl rfl)
theorem dJ4_add_2_2 : decode cJ4_add_2 2 = .ok (.arraylength, 1) := dk_190 (dk_at dksJ4_add_2_0 2 rfl rfl)
theorem dJ4_add_2_3 : decode cJ4_add_2 3 = .ok (.if_icmp .ne 8, 3) := dk_160 0 8 (dk_at dksJ4_add_2_0 3 rfl rfl)
theorem dJ4_add_2_6 : decode cJ4_add_2 6 = .ok (.aload_n 0, 1) := dk_42 (dk_at dksJ4_add_2_0 6 rfl rfl)
theorem dJ4_add_2_7 : decode cJ4_add_2 7 = .ok (.invokevirtual 129, 3) := dk_182 0 129 (dk_at dksJ4_add_2_0 7 rfl rfl)
theorem dJ4_add_2_10 : decode cJ4_add_2 10 = .ok (.astore_n 2, 1) := dk_77 (dk_at dksJ4_add_2_0 10 rfl rfl)
theorem dJ4_add_2_11 : decode cJ4_add_2 11 = .ok (.aload_n 2, 1) := dk_44 (dk_at dksJ4_add_2_0 11 rfl rfl)
theorem dJ4_add_2_12 : decode cJ4_add_2 12 = .ok (.iload_n 3, 1) := dk_29 (dk_at dksJ4_add_2_0 12 rfl rfl)
theorem dJ4_add_2_13 : decode cJ4_add_2 13 = .ok (.aload_n 1, 1) := dk_43 (dk_at dksJ4_add_2_0 13 rfl rfl)
theorem dJ4_add_2_14 : decode cJ4_add_2 14 = .ok (.aastore, 1) := dk_83 (dk_at dksJ4_add_2_0 14 rfl rfl)
theorem dJ4_add_2_15 : decode cJ4_add_2 15 = .ok (.aload_n 0, 1) := dk_42 (dk_at dksJ4_add_2_0 15 rfl rfl)
theorem dJ4_add_2_16 : decode cJ4_add_2 16 = .ok (.iload_n 3, 1) := dk_29 (dk_at dksJ4_add_2_0 16 rfl rfl)
theorem dJ4_add_2_17 : decode cJ4_add_2 17 = .ok (.iconst 1, 1) := dk_4 (dk_at dksJ4_add_2_0 17 rfl rfl)
theorem dJ4_add_2_18 : decode cJ4_add_2 18 = .ok (.iadd, 1) := dk_96 (dk_at dksJ4_add_2_0 18 rfl rfl)
theorem dJ4_add_2_19 : decode cJ4_add_2 19 = .ok (.putfield 48, 3) := dk_181 0 48 (dk_at dksJ4_add_2_0 19 rfl rfl)
theorem dJ4_add_2_22 : decode cJ4_add_2 22 = .ok (.return_, 1) := dk_177 (dk_at dksJ4_add_2_0 22 rfl rfl)
abbrev cJ4_grow : ByteArray := prog_57_method_7_code
def yJ4_grow : MethodName := ⟨RJ4, "grow", "()[Ljava/lang/Object;"⟩
def dkwJ4_grow_0 : List UInt8 := [42, 42, 180, 0, 48, 4, 96, 182, 0, 69, 176]
abbrev dktJ4_grow_0 : List UInt8 := dkwJ4_grow_0 ++ []
theorem dksJ4_grow_0 : cJ4_grow.data.toList.drop 0 = dktJ4_grow_0 := by decide +kernel
theorem dJ4_grow_0 : decode cJ4_grow 0 = .ok (.aload_n 0, 1) := dk_42 (dk_at dksJ4_grow_0 0 rfl rfl)
theorem dJ4_grow_1 : decode cJ4_grow 1 = .ok (.aload_n 0, 1) := dk_42 (dk_at dksJ4_grow_0 1 rfl rfl)
theorem dJ4_grow_2 : decode cJ4_grow 2 = .ok (.getfield 48, 3) := dk_180 0 48 (dk_at dksJ4_grow_0 2 rfl rfl)
theorem dJ4_grow_5 : decode cJ4_grow 5 = .ok (.iconst 1, 1) := dk_4 (dk_at dksJ4_grow_0 5 rfl rfl)
theorem dJ4_grow_6 : decode cJ4_grow 6 = .ok (.iadd, 1) := dk_96 (dk_at dksJ4_grow_0 6 rfl rfl)
theorem dJ4_grow_7 : decode cJ4_grow 7 = .ok (.invokevirtual 69, 3) := dk_182 0 69 (dk_at dksJ4_grow_0 7 rfl rfl)
theorem dJ4_grow_10 : decode cJ4_grow 10 = .ok (.areturn, 1) := dk_176 (dk_at dksJ4_grow_0 10 rfl rfl)
abbrev cJ4_grow_2 : ByteArray := prog_57_method_6_code
def yJ4_grow_2 : MethodName := ⟨RJ4, "grow", "(I)[Ljava/lang/Object;"⟩
def dkwJ4_grow_2_2 : List UInt8 := [27, 184, 0, 79, 189, 0, 7, 90, 181, 0, 9, 176]
abbrev dktJ4_grow_2_2 : List UInt8 := dkwJ4_grow_2_2 ++ []
def dkwJ4_grow_2_1 : List UInt8 := [28, 4, 122, 184, 0, 73, 62, 42, 42, 180, 0, 9, 29, 184, 0, 66, 90, 181, 0, 9, 176, 42, 16, 10]
abbrev dktJ4_grow_2_1 : List UInt8 := dkwJ4_grow_2_1 ++ dktJ4_grow_2_2
def dkwJ4_grow_2_0 : List UInt8 := [42, 180, 0, 9, 190, 61, 28, 157, 0, 13, 42, 180, 0, 9, 178, 0, 39, 165, 0, 28, 28, 27, 28, 100]
abbrev dktJ4_grow_2_0 : List UInt8 := dkwJ4_grow_2_0 ++ dktJ4_grow_2_1
theorem dksJ4_grow_2_0 : cJ4_grow_2.data.toList.drop 0 = dktJ4_grow_2_0 := by decide +kernel
theorem dksJ4_grow_2_1 : cJ4_grow_2.data.toList.drop 24 = dktJ4_grow_2_1 := dk_seg dksJ4_grow_2_0 24 rfl rfl
theorem dksJ4_grow_2_2 : cJ4_grow_2.data.toList.drop 48 = dktJ4_grow_2_2 := dk_seg dksJ4_grow_2_1 24 rfl rfl
theorem dJ4_grow_2_0 : decode cJ4_grow_2 0 = .ok (.aload_n 0, 1) := dk_42 (dk_at dksJ4_grow_2_0 0 rfl rfl)
theorem dJ4_grow_2_1 : decode cJ4_grow_2 1 = .ok (.getfield 9, 3) := dk_180 0 9 (dk_at dksJ4_grow_2_0 1 rfl rfl)
theorem dJ4_grow_2_4 : decode cJ4_grow_2 4 = .ok (.arraylength, 1) := dk_190 (dk_at dksJ4_grow_2_0 4 rfl rfl)
theorem dJ4_grow_2_5 : decode cJ4_grow_2 5 = .ok (.istore_n 2, 1) := dk_61 (dk_at dksJ4_grow_2_0 5 rfl rfl)
theorem dJ4_grow_2_6 : decode cJ4_grow_2 6 = .ok (.iload_n 2, 1) := dk_28 (dk_at dksJ4_grow_2_0 6 rfl rfl)
theorem dJ4_grow_2_7 : decode cJ4_grow_2 7 = .ok (.ifCond .gt 13, 3) := dk_157 0 13 (dk_at dksJ4_grow_2_0 7 rfl rfl)
theorem dJ4_grow_2_10 : decode cJ4_grow_2 10 = .ok (.aload_n 0, 1) := dk_42 (dk_at dksJ4_grow_2_0 10 rfl rfl)
theorem dJ4_grow_2_11 : decode cJ4_grow_2 11 = .ok (.getfield 9, 3) := dk_180 0 9 (dk_at dksJ4_grow_2_0 11 rfl rfl)
theorem dJ4_grow_2_14 : decode cJ4_grow_2 14 = .ok (.getstatic 39, 3) := dk_178 0 39 (dk_at dksJ4_grow_2_0 14 rfl rfl)
theorem dJ4_grow_2_17 : decode cJ4_grow_2 17 = .ok (.if_acmp .eq 28, 3) := dk_165 0 28 (dk_at dksJ4_grow_2_0 17 rfl rfl)
theorem dJ4_grow_2_20 : decode cJ4_grow_2 20 = .ok (.iload_n 2, 1) := dk_28 (dk_at dksJ4_grow_2_0 20 rfl rfl)
theorem dJ4_grow_2_21 : decode cJ4_grow_2 21 = .ok (.iload_n 1, 1) := dk_27 (dk_at dksJ4_grow_2_0 21 rfl rfl)
theorem dJ4_grow_2_22 : decode cJ4_grow_2 22 = .ok (.iload_n 2, 1) := dk_28 (dk_at dksJ4_grow_2_0 22 rfl rfl)
theorem dJ4_grow_2_23 : decode cJ4_grow_2 23 = .ok (.isub, 1) := dk_100 (dk_at dksJ4_grow_2_0 23 rfl rfl)
theorem dJ4_grow_2_24 : decode cJ4_grow_2 24 = .ok (.iload_n 2, 1) := dk_28 (dk_at dksJ4_grow_2_1 0 rfl rfl)
theorem dJ4_grow_2_25 : decode cJ4_grow_2 25 = .ok (.iconst 1, 1) := dk_4 (dk_at dksJ4_grow_2_1 1 rfl rfl)
theorem dJ4_grow_2_26 : decode cJ4_grow_2 26 = .ok (.ishr, 1) := dk_122 (dk_at dksJ4_grow_2_1 2 rfl rfl)
theorem dJ4_grow_2_27 : decode cJ4_grow_2 27 = .ok (.invokestatic 73, 3) := dk_184 0 73 (dk_at dksJ4_grow_2_1 3 rfl rfl)
theorem dJ4_grow_2_30 : decode cJ4_grow_2 30 = .ok (.istore_n 3, 1) := dk_62 (dk_at dksJ4_grow_2_1 6 rfl rfl)
theorem dJ4_grow_2_31 : decode cJ4_grow_2 31 = .ok (.aload_n 0, 1) := dk_42 (dk_at dksJ4_grow_2_1 7 rfl rfl)
theorem dJ4_grow_2_32 : decode cJ4_grow_2 32 = .ok (.aload_n 0, 1) := dk_42 (dk_at dksJ4_grow_2_1 8 rfl rfl)
theorem dJ4_grow_2_33 : decode cJ4_grow_2 33 = .ok (.getfield 9, 3) := dk_180 0 9 (dk_at dksJ4_grow_2_1 9 rfl rfl)
theorem dJ4_grow_2_36 : decode cJ4_grow_2 36 = .ok (.iload_n 3, 1) := dk_29 (dk_at dksJ4_grow_2_1 12 rfl rfl)
theorem dJ4_grow_2_37 : decode cJ4_grow_2 37 = .ok (.invokestatic 66, 3) := dk_184 0 66 (dk_at dksJ4_grow_2_1 13 rfl rfl)
theorem dJ4_grow_2_40 : decode cJ4_grow_2 40 = .ok (.dup_x1, 1) := dk_90 (dk_at dksJ4_grow_2_1 16 rfl rfl)
theorem dJ4_grow_2_41 : decode cJ4_grow_2 41 = .ok (.putfield 9, 3) := dk_181 0 9 (dk_at dksJ4_grow_2_1 17 rfl rfl)
theorem dJ4_grow_2_44 : decode cJ4_grow_2 44 = .ok (.areturn, 1) := dk_176 (dk_at dksJ4_grow_2_1 20 rfl rfl)
theorem dJ4_grow_2_45 : decode cJ4_grow_2 45 = .ok (.aload_n 0, 1) := dk_42 (dk_at dksJ4_grow_2_1 21 rfl rfl)
theorem dJ4_grow_2_46 : decode cJ4_grow_2 46 = .ok (.bipush 10, 2) := dk_16 10 (dk_at dksJ4_grow_2_1 22 rfl rfl)
theorem dJ4_grow_2_48 : decode cJ4_grow_2 48 = .ok (.iload_n 1, 1) := dk_27 (dk_at dksJ4_grow_2_2 0 rfl rfl)
theorem dJ4_grow_2_49 : decode cJ4_grow_2 49 = .ok (.invokestatic 79, 3) := dk_184 0 79 (dk_at dksJ4_grow_2_2 1 rfl rfl)
theorem dJ4_grow_2_52 : decode cJ4_grow_2 52 = .ok (.anewarray 7, 3) := dk_189 0 7 (dk_at dksJ4_grow_2_2 4 rfl rfl)
theorem dJ4_grow_2_55 : decode cJ4_grow_2 55 = .ok (.dup_x1, 1) := dk_90 (dk_at dksJ4_grow_2_2 7 rfl rfl)
theorem dJ4_grow_2_56 : decode cJ4_grow_2 56 = .ok (.putfield 9, 3) := dk_181 0 9 (dk_at dksJ4_grow_2_2 8 rfl rfl)
theorem dJ4_grow_2_59 : decode cJ4_grow_2 59 = .ok (.areturn, 1) := dk_176 (dk_at dksJ4_grow_2_2 11 rfl rfl)
abbrev cJ4_init_2 : ByteArray := prog_57_method_3_code
def yJ4_init_2 : MethodName := ⟨RJ4, "<init>", "(Ljava/util/Collection;)V"⟩
def dkwJ4_init_2_2 : List UInt8 := [18, 56, 184, 0, 57, 181, 0, 9, 167, 0, 10, 42, 178, 0, 15, 181, 0, 9, 177]
abbrev dktJ4_init_2_2 : List UInt8 := dkwJ4_init_2_2 ++ []
def dkwJ4_init_2_1 : List UInt8 := [185, 0, 52, 1, 0, 18, 10, 166, 0, 11, 42, 44, 181, 0, 9, 167, 0, 27, 42, 44, 42, 180, 0, 48]
abbrev dktJ4_init_2_1 : List UInt8 := dkwJ4_init_2_1 ++ dktJ4_init_2_2
def dkwJ4_init_2_0 : List UInt8 := [42, 183, 0, 1, 43, 185, 0, 42, 1, 0, 77, 42, 44, 190, 90, 181, 0, 48, 153, 0, 39, 43]
abbrev dktJ4_init_2_0 : List UInt8 := dkwJ4_init_2_0 ++ dktJ4_init_2_1
theorem dksJ4_init_2_0 : cJ4_init_2.data.toList.drop 0 = dktJ4_init_2_0 := by decide +kernel
theorem dksJ4_init_2_1 : cJ4_init_2.data.toList.drop 22 = dktJ4_init_2_1 := dk_seg dksJ4_init_2_0 22 rfl rfl
theorem dksJ4_init_2_2 : cJ4_init_2.data.toList.drop 46 = dktJ4_init_2_2 := dk_seg dksJ4_init_2_1 24 rfl rfl
theorem dJ4_init_2_0 : decode cJ4_init_2 0 = .ok (.aload_n 0, 1) := dk_42 (dk_at dksJ4_init_2_0 0 rfl rfl)
theorem dJ4_init_2_1 : decode cJ4_init_2 1 = .ok (.invokespecial 1, 3) := dk_183 0 1 (dk_at dksJ4_init_2_0 1 rfl rfl)
theorem dJ4_init_2_4 : decode cJ4_init_2 4 = .ok (.aload_n 1, 1) := dk_43 (dk_at dksJ4_init_2_0 4 rfl rfl)
theorem dJ4_init_2_5 : decode cJ4_init_2 5 = .ok (.invokeinterface 42 1, 5) := by decide +kernel
theorem dJ4_init_2_10 : decode cJ4_init_2 10 = .ok (.astore_n 2, 1) := dk_77 (dk_at dksJ4_init_2_0 10 rfl rfl)
theorem dJ4_init_2_11 : decode cJ4_init_2 11 = .ok (.aload_n 0, 1) := dk_42 (dk_at dksJ4_init_2_0 11 rfl rfl)
theorem dJ4_init_2_12 : decode cJ4_init_2 12 = .ok (.aload_n 2, 1) := dk_44 (dk_at dksJ4_init_2_0 12 rfl rfl)
theorem dJ4_init_2_13 : decode cJ4_init_2 13 = .ok (.arraylength, 1) := dk_190 (dk_at dksJ4_init_2_0 13 rfl rfl)
theorem dJ4_init_2_14 : decode cJ4_init_2 14 = .ok (.dup_x1, 1) := dk_90 (dk_at dksJ4_init_2_0 14 rfl rfl)
theorem dJ4_init_2_15 : decode cJ4_init_2 15 = .ok (.putfield 48, 3) := dk_181 0 48 (dk_at dksJ4_init_2_0 15 rfl rfl)
theorem dJ4_init_2_18 : decode cJ4_init_2 18 = .ok (.ifCond .eq 39, 3) := dk_153 0 39 (dk_at dksJ4_init_2_0 18 rfl rfl)
theorem dJ4_init_2_21 : decode cJ4_init_2 21 = .ok (.aload_n 1, 1) := dk_43 (dk_at dksJ4_init_2_0 21 rfl rfl)
theorem dJ4_init_2_22 : decode cJ4_init_2 22 = .ok (.invokeinterface 52 1, 5) := by decide +kernel
theorem dJ4_init_2_27 : decode cJ4_init_2 27 = .ok (.ldc 10, 2) := dk_18 10 (dk_at dksJ4_init_2_1 5 rfl rfl)
theorem dJ4_init_2_29 : decode cJ4_init_2 29 = .ok (.if_acmp .ne 11, 3) := dk_166 0 11 (dk_at dksJ4_init_2_1 7 rfl rfl)
theorem dJ4_init_2_32 : decode cJ4_init_2 32 = .ok (.aload_n 0, 1) := dk_42 (dk_at dksJ4_init_2_1 10 rfl rfl)
theorem dJ4_init_2_33 : decode cJ4_init_2 33 = .ok (.aload_n 2, 1) := dk_44 (dk_at dksJ4_init_2_1 11 rfl rfl)
theorem dJ4_init_2_34 : decode cJ4_init_2 34 = .ok (.putfield 9, 3) := dk_181 0 9 (dk_at dksJ4_init_2_1 12 rfl rfl)
theorem dJ4_init_2_37 : decode cJ4_init_2 37 = .ok (.goto 27, 3) := dk_167 0 27 (dk_at dksJ4_init_2_1 15 rfl rfl)
theorem dJ4_init_2_40 : decode cJ4_init_2 40 = .ok (.aload_n 0, 1) := dk_42 (dk_at dksJ4_init_2_1 18 rfl rfl)
theorem dJ4_init_2_41 : decode cJ4_init_2 41 = .ok (.aload_n 2, 1) := dk_44 (dk_at dksJ4_init_2_1 19 rfl rfl)
theorem dJ4_init_2_42 : decode cJ4_init_2 42 = .ok (.aload_n 0, 1) := dk_42 (dk_at dksJ4_init_2_1 20 rfl rfl)
theorem dJ4_init_2_43 : decode cJ4_init_2 43 = .ok (.getfield 48, 3) := dk_180 0 48 (dk_at dksJ4_init_2_1 21 rfl rfl)
theorem dJ4_init_2_46 : decode cJ4_init_2 46 = .ok (.ldc 56, 2) := dk_18 56 (dk_at dksJ4_init_2_2 0 rfl rfl)
theorem dJ4_init_2_48 : decode cJ4_init_2 48 = .ok (.invokestatic 57, 3) := dk_184 0 57 (dk_at dksJ4_init_2_2 2 rfl rfl)
theorem dJ4_init_2_51 : decode cJ4_init_2 51 = .ok (.putfield 9, 3) := dk_181 0 9 (dk_at dksJ4_init_2_2 5 rfl rfl)
theorem dJ4_init_2_54 : decode cJ4_init_2 54 = .ok (.goto 10, 3) := dk_167 0 10 (dk_at dksJ4_init_2_2 8 rfl rfl)
theorem dJ4_init_2_57 : decode cJ4_init_2 57 = .ok (.aload_n 0, 1) := dk_42 (dk_at dksJ4_init_2_2 11 rfl rfl)
theorem dJ4_init_2_58 : decode cJ4_init_2 58 = .ok (.getstatic 15, 3) := dk_178 0 15 (dk_at dksJ4_init_2_2 12 rfl rfl)
theorem dJ4_init_2_61 : decode cJ4_init_2 61 = .ok (.putfield 9, 3) := dk_181 0 9 (dk_at dksJ4_init_2_2 15 rfl rfl)
theorem dJ4_init_2_64 : decode cJ4_init_2 64 = .ok (.return_, 1) := dk_177 (dk_at dksJ4_init_2_2 18 rfl rfl)
abbrev cJ4_toArray : ByteArray := prog_57_method_16_code
def yJ4_toArray : MethodName := ⟨RJ4, "toArray", "()[Ljava/lang/Object;"⟩
def dkwJ4_toArray_0 : List UInt8 := [42, 180, 0, 9, 42, 180, 0, 48, 184, 0, 66, 176]
abbrev dktJ4_toArray_0 : List UInt8 := dkwJ4_toArray_0 ++ []
theorem dksJ4_toArray_0 : cJ4_toArray.data.toList.drop 0 = dktJ4_toArray_0 := by decide +kernel
theorem dJ4_toArray_0 : decode cJ4_toArray 0 = .ok (.aload_n 0, 1) := dk_42 (dk_at dksJ4_toArray_0 0 rfl rfl)
theorem dJ4_toArray_1 : decode cJ4_toArray 1 = .ok (.getfield 9, 3) := dk_180 0 9 (dk_at dksJ4_toArray_0 1 rfl rfl)
theorem dJ4_toArray_4 : decode cJ4_toArray 4 = .ok (.aload_n 0, 1) := dk_42 (dk_at dksJ4_toArray_0 4 rfl rfl)
theorem dJ4_toArray_5 : decode cJ4_toArray 5 = .ok (.getfield 48, 3) := dk_180 0 48 (dk_at dksJ4_toArray_0 5 rfl rfl)
theorem dJ4_toArray_8 : decode cJ4_toArray 8 = .ok (.invokestatic 66, 3) := dk_184 0 66 (dk_at dksJ4_toArray_0 8 rfl rfl)
theorem dJ4_toArray_11 : decode cJ4_toArray 11 = .ok (.areturn, 1) := dk_176 (dk_at dksJ4_toArray_0 11 rfl rfl)
abbrev cJ4_addAll : ByteArray := prog_57_method_41_code
def yJ4_addAll : MethodName := ⟨RJ4, "addAll", "(Ljava/util/Collection;)Z"⟩
def dkwJ4_addAll_3 : List UInt8 := [181, 0, 48, 4, 172]
abbrev dktJ4_addAll_3 : List UInt8 := dkwJ4_addAll_3 ++ []
def dkwJ4_addAll_2 : List UInt8 := [21, 5, 29, 96, 182, 0, 69, 58, 4, 44, 3, 25, 4, 21, 5, 29, 184, 0, 112, 42, 21, 5, 29, 96]
abbrev dktJ4_addAll_2 : List UInt8 := dkwJ4_addAll_2 ++ dktJ4_addAll_3
def dkwJ4_addAll_1 : List UInt8 := [3, 172, 29, 42, 180, 0, 9, 89, 58, 4, 190, 42, 180, 0, 48, 89, 54, 5, 100, 164, 0, 13, 42]
abbrev dktJ4_addAll_1 : List UInt8 := dkwJ4_addAll_1 ++ dktJ4_addAll_2
def dkwJ4_addAll_0 : List UInt8 := [43, 185, 0, 42, 1, 0, 77, 42, 89, 180, 0, 63, 4, 96, 181, 0, 63, 44, 190, 62, 29, 154, 0, 5]
abbrev dktJ4_addAll_0 : List UInt8 := dkwJ4_addAll_0 ++ dktJ4_addAll_1
theorem dksJ4_addAll_0 : cJ4_addAll.data.toList.drop 0 = dktJ4_addAll_0 := by decide +kernel
theorem dksJ4_addAll_1 : cJ4_addAll.data.toList.drop 24 = dktJ4_addAll_1 := dk_seg dksJ4_addAll_0 24 rfl rfl
theorem dksJ4_addAll_2 : cJ4_addAll.data.toList.drop 47 = dktJ4_addAll_2 := dk_seg dksJ4_addAll_1 23 rfl rfl
theorem dksJ4_addAll_3 : cJ4_addAll.data.toList.drop 71 = dktJ4_addAll_3 := dk_seg dksJ4_addAll_2 24 rfl rfl
theorem dJ4_addAll_0 : decode cJ4_addAll 0 = .ok (.aload_n 1, 1) := dk_43 (dk_at dksJ4_addAll_0 0 rfl rfl)
theorem dJ4_addAll_1 : decode cJ4_addAll 1 = .ok (.invokeinterface 42 1, 5) := by decide +kernel
theorem dJ4_addAll_6 : decode cJ4_addAll 6 = .ok (.astore_n 2, 1) := dk_77 (dk_at dksJ4_addAll_0 6 rfl rfl)
theorem dJ4_addAll_7 : decode cJ4_addAll 7 = .ok (.aload_n 0, 1) := dk_42 (dk_at dksJ4_addAll_0 7 rfl rfl)
theorem dJ4_addAll_8 : decode cJ4_addAll 8 = .ok (.dup, 1) := dk_89 (dk_at dksJ4_addAll_0 8 rfl rfl)
theorem dJ4_addAll_9 : decode cJ4_addAll 9 = .ok (.getfield 63, 3) := dk_180 0 63 (dk_at dksJ4_addAll_0 9 rfl rfl)
theorem dJ4_addAll_12 : decode cJ4_addAll 12 = .ok (.iconst 1, 1) := dk_4 (dk_at dksJ4_addAll_0 12 rfl rfl)
theorem dJ4_addAll_13 : decode cJ4_addAll 13 = .ok (.iadd, 1) := dk_96 (dk_at dksJ4_addAll_0 13 rfl rfl)
theorem dJ4_addAll_14 : decode cJ4_addAll 14 = .ok (.putfield 63, 3) := dk_181 0 63 (dk_at dksJ4_addAll_0 14 rfl rfl)
theorem dJ4_addAll_17 : decode cJ4_addAll 17 = .ok (.aload_n 2, 1) := dk_44 (dk_at dksJ4_addAll_0 17 rfl rfl)
theorem dJ4_addAll_18 : decode cJ4_addAll 18 = .ok (.arraylength, 1) := dk_190 (dk_at dksJ4_addAll_0 18 rfl rfl)
theorem dJ4_addAll_19 : decode cJ4_addAll 19 = .ok (.istore_n 3, 1) := dk_62 (dk_at dksJ4_addAll_0 19 rfl rfl)
theorem dJ4_addAll_20 : decode cJ4_addAll 20 = .ok (.iload_n 3, 1) := dk_29 (dk_at dksJ4_addAll_0 20 rfl rfl)
theorem dJ4_addAll_21 : decode cJ4_addAll 21 = .ok (.ifCond .ne 5, 3) := dk_154 0 5 (dk_at dksJ4_addAll_0 21 rfl rfl)
theorem dJ4_addAll_24 : decode cJ4_addAll 24 = .ok (.iconst 0, 1) := dk_3 (dk_at dksJ4_addAll_1 0 rfl rfl)
theorem dJ4_addAll_25 : decode cJ4_addAll 25 = .ok (.ireturn, 1) := dk_172 (dk_at dksJ4_addAll_1 1 rfl rfl)
theorem dJ4_addAll_26 : decode cJ4_addAll 26 = .ok (.iload_n 3, 1) := dk_29 (dk_at dksJ4_addAll_1 2 rfl rfl)
theorem dJ4_addAll_27 : decode cJ4_addAll 27 = .ok (.aload_n 0, 1) := dk_42 (dk_at dksJ4_addAll_1 3 rfl rfl)
theorem dJ4_addAll_28 : decode cJ4_addAll 28 = .ok (.getfield 9, 3) := dk_180 0 9 (dk_at dksJ4_addAll_1 4 rfl rfl)
theorem dJ4_addAll_31 : decode cJ4_addAll 31 = .ok (.dup, 1) := dk_89 (dk_at dksJ4_addAll_1 7 rfl rfl)
theorem dJ4_addAll_32 : decode cJ4_addAll 32 = .ok (.astore 4, 2) := dk_58 4 (dk_at dksJ4_addAll_1 8 rfl rfl)
theorem dJ4_addAll_34 : decode cJ4_addAll 34 = .ok (.arraylength, 1) := dk_190 (dk_at dksJ4_addAll_1 10 rfl rfl)
theorem dJ4_addAll_35 : decode cJ4_addAll 35 = .ok (.aload_n 0, 1) := dk_42 (dk_at dksJ4_addAll_1 11 rfl rfl)
theorem dJ4_addAll_36 : decode cJ4_addAll 36 = .ok (.getfield 48, 3) := dk_180 0 48 (dk_at dksJ4_addAll_1 12 rfl rfl)
theorem dJ4_addAll_39 : decode cJ4_addAll 39 = .ok (.dup, 1) := dk_89 (dk_at dksJ4_addAll_1 15 rfl rfl)
theorem dJ4_addAll_40 : decode cJ4_addAll 40 = .ok (.istore 5, 2) := dk_54 5 (dk_at dksJ4_addAll_1 16 rfl rfl)
theorem dJ4_addAll_42 : decode cJ4_addAll 42 = .ok (.isub, 1) := dk_100 (dk_at dksJ4_addAll_1 18 rfl rfl)
theorem dJ4_addAll_43 : decode cJ4_addAll 43 = .ok (.if_icmp .le 13, 3) := dk_164 0 13 (dk_at dksJ4_addAll_1 19 rfl rfl)
theorem dJ4_addAll_46 : decode cJ4_addAll 46 = .ok (.aload_n 0, 1) := dk_42 (dk_at dksJ4_addAll_1 22 rfl rfl)
theorem dJ4_addAll_47 : decode cJ4_addAll 47 = .ok (.iload 5, 2) := dk_21 5 (dk_at dksJ4_addAll_2 0 rfl rfl)
theorem dJ4_addAll_49 : decode cJ4_addAll 49 = .ok (.iload_n 3, 1) := dk_29 (dk_at dksJ4_addAll_2 2 rfl rfl)
theorem dJ4_addAll_50 : decode cJ4_addAll 50 = .ok (.iadd, 1) := dk_96 (dk_at dksJ4_addAll_2 3 rfl rfl)
theorem dJ4_addAll_51 : decode cJ4_addAll 51 = .ok (.invokevirtual 69, 3) := dk_182 0 69 (dk_at dksJ4_addAll_2 4 rfl rfl)
theorem dJ4_addAll_54 : decode cJ4_addAll 54 = .ok (.astore 4, 2) := dk_58 4 (dk_at dksJ4_addAll_2 7 rfl rfl)
theorem dJ4_addAll_56 : decode cJ4_addAll 56 = .ok (.aload_n 2, 1) := dk_44 (dk_at dksJ4_addAll_2 9 rfl rfl)
theorem dJ4_addAll_57 : decode cJ4_addAll 57 = .ok (.iconst 0, 1) := dk_3 (dk_at dksJ4_addAll_2 10 rfl rfl)
theorem dJ4_addAll_58 : decode cJ4_addAll 58 = .ok (.aload 4, 2) := dk_25 4 (dk_at dksJ4_addAll_2 11 rfl rfl)
theorem dJ4_addAll_60 : decode cJ4_addAll 60 = .ok (.iload 5, 2) := dk_21 5 (dk_at dksJ4_addAll_2 13 rfl rfl)
theorem dJ4_addAll_62 : decode cJ4_addAll 62 = .ok (.iload_n 3, 1) := dk_29 (dk_at dksJ4_addAll_2 15 rfl rfl)
theorem dJ4_addAll_63 : decode cJ4_addAll 63 = .ok (.invokestatic 112, 3) := dk_184 0 112 (dk_at dksJ4_addAll_2 16 rfl rfl)
theorem dJ4_addAll_66 : decode cJ4_addAll 66 = .ok (.aload_n 0, 1) := dk_42 (dk_at dksJ4_addAll_2 19 rfl rfl)
theorem dJ4_addAll_67 : decode cJ4_addAll 67 = .ok (.iload 5, 2) := dk_21 5 (dk_at dksJ4_addAll_2 20 rfl rfl)
theorem dJ4_addAll_69 : decode cJ4_addAll 69 = .ok (.iload_n 3, 1) := dk_29 (dk_at dksJ4_addAll_2 22 rfl rfl)
theorem dJ4_addAll_70 : decode cJ4_addAll 70 = .ok (.iadd, 1) := dk_96 (dk_at dksJ4_addAll_2 23 rfl rfl)
theorem dJ4_addAll_71 : decode cJ4_addAll 71 = .ok (.putfield 48, 3) := dk_181 0 48 (dk_at dksJ4_addAll_3 0 rfl rfl)
theorem dJ4_addAll_74 : decode cJ4_addAll 74 = .ok (.iconst 1, 1) := dk_4 (dk_at dksJ4_addAll_3 3 rfl rfl)
theorem dJ4_addAll_75 : decode cJ4_addAll 75 = .ok (.ireturn, 1) := dk_172 (dk_at dksJ4_addAll_3 4 rfl rfl)
theorem q129 : (Jvm.Cond.initialized "java/util/ArrayList") ∈ lw_all := lw_g (lw_at lw_m1 7 rfl) rfl
theorem q240 : (Jvm.Cond.instantiable "java/util/ArrayList" (3 : Nat)) ∈ lw_all := lw_g (lw_at lw_m1 118 rfl) rfl
theorem q242 : (Jvm.Cond.instanceMethod ({ cls := "java/util/ArrayList", name := "<init>", desc := "()V" } : Jvm.MethodName)) ∈ lw_all := lw_g (lw_at lw_m1 120 rfl) rfl
theorem q243 : (Jvm.Cond.code ({ cls := "java/util/ArrayList", name := "<init>", desc := "()V" } : Jvm.MethodName) prog_57_method_2_code (1 : Nat) (Option.none : Option Jvm.ClassFile.FieldType)) ∈ lw_all := lw_g (lw_at lw_m1 121 rfl) rfl
theorem q244 : (Jvm.Cond.methodLink "java/util/ArrayList" (1 : Nat) ({ cls := "java/util/AbstractList", name := "<init>", desc := "()V" } : Jvm.MethodName)) ∈ lw_all := lw_g (lw_at lw_m1 122 rfl) rfl
theorem q251 : (Jvm.Cond.fieldLink "java/util/ArrayList" (39 : Nat) "java/util/ArrayList" "DEFAULTCAPACITY_EMPTY_ELEMENTDATA" "[Ljava/lang/Object;") ∈ lw_all := lw_g (lw_at lw_m1 129 rfl) rfl
theorem q252 : (Jvm.Cond.laysStatic "java/util/ArrayList" "DEFAULTCAPACITY_EMPTY_ELEMENTDATA" "[Ljava/lang/Object;") ∈ lw_tbl := lw_at lw_m1 130 rfl
theorem q253 : (Jvm.Cond.fieldLink "java/util/ArrayList" (9 : Nat) "java/util/ArrayList" "elementData" "[Ljava/lang/Object;") ∈ lw_all := lw_g (lw_at lw_m1 131 rfl) rfl
theorem q256 : (Jvm.Cond.fieldLink "java/util/ArrayList" (48 : Nat) "java/util/ArrayList" "size" "I") ∈ lw_all := lw_g (lw_at lw_m1 134 rfl) rfl
theorem q259 : (Jvm.Cond.sameField "java/util/ArrayList" "java/util/AbstractList" "modCount" "I") ∈ lw_all := lw_g (lw_at lw_m1 137 rfl) rfl
theorem q260 : (Jvm.Cond.fieldLink "java/util/ArrayList" (63 : Nat) "java/util/ArrayList" "modCount" "I") ∈ lw_all := lw_g (lw_at lw_m1 138 rfl) rfl
theorem q261 : (Jvm.Cond.lays "java/util/ArrayList" "java/util/ArrayList" "elementData" "[Ljava/lang/Object;") ∈ lw_all := lw_g (lw_at lw_m1 139 rfl) rfl
theorem q262 : (Jvm.Cond.soleField "java/util/ArrayList" "elementData") ∈ lw_all := lw_g (lw_at lw_m1 140 rfl) rfl
theorem q263 : (Jvm.Cond.lays "java/util/ArrayList" "java/util/ArrayList" "size" "I") ∈ lw_all := lw_g (lw_at lw_m1 141 rfl) rfl
theorem q264 : (Jvm.Cond.soleField "java/util/ArrayList" "size") ∈ lw_all := lw_g (lw_at lw_m1 142 rfl) rfl
theorem q265 : (Jvm.Cond.lays "java/util/ArrayList" "java/util/AbstractList" "modCount" "I") ∈ lw_all := lw_g (lw_at lw_m1 143 rfl) rfl
theorem q267 : (Jvm.Cond.superclass "java/util/ArrayList" "java/util/AbstractList") ∈ lw_all := lw_g (lw_at lw_m1 145 rfl) rfl
theorem q366 : (Jvm.Cond.selects "java/util/ArrayList" ({ cls := "java/lang/Object", name := "getClass", desc := "()Ljava/lang/Class;" } : Jvm.MethodName) ({ cls := "java/lang/Object", name := "getClass", desc := "()Ljava/lang/Class;" } : Jvm.MethodName)) ∈ lw_all := lw_g (lw_at lw_m2 4 rfl) rfl
theorem q1145 : (Jvm.Cond.instanceMethod ({ cls := "java/util/ArrayList", name := "size", desc := "()I" } : Jvm.MethodName)) ∈ lw_all := lw_g (lw_at lw_m5 63 rfl) rfl
theorem q1146 : (Jvm.Cond.selects "java/util/ArrayList" ({ cls := "java/util/ArrayList", name := "size", desc := "()I" } : Jvm.MethodName) ({ cls := "java/util/ArrayList", name := "size", desc := "()I" } : Jvm.MethodName)) ∈ lw_all := lw_g (lw_at lw_m5 64 rfl) rfl
theorem q1147 : (Jvm.Cond.code ({ cls := "java/util/ArrayList", name := "size", desc := "()I" } : Jvm.MethodName) prog_57_method_8_code (1 : Nat) (Option.some Jvm.ClassFile.FieldType.int)) ∈ lw_all := lw_g (lw_at lw_m5 65 rfl) rfl
theorem q1149 : (Jvm.Cond.instanceMethod ({ cls := "java/util/ArrayList", name := "get", desc := "(I)Ljava/lang/Object;" } : Jvm.MethodName)) ∈ lw_all := lw_g (lw_at lw_m5 67 rfl) rfl
theorem q1150 : (Jvm.Cond.selects "java/util/ArrayList" ({ cls := "java/util/ArrayList", name := "get", desc := "(I)Ljava/lang/Object;" } : Jvm.MethodName) ({ cls := "java/util/ArrayList", name := "get", desc := "(I)Ljava/lang/Object;" } : Jvm.MethodName)) ∈ lw_all := lw_g (lw_at lw_m5 68 rfl) rfl
theorem q1151 : (Jvm.Cond.code ({ cls := "java/util/ArrayList", name := "get", desc := "(I)Ljava/lang/Object;" } : Jvm.MethodName) prog_57_method_20_code (2 : Nat) (Option.some (Jvm.ClassFile.FieldType.object "java/lang/Object"))) ∈ lw_all := lw_g (lw_at lw_m5 69 rfl) rfl
theorem q1152 : (Jvm.Cond.methodLink "java/util/ArrayList" (118 : Nat) ({ cls := "java/util/Objects", name := "checkIndex", desc := "(II)I" } : Jvm.MethodName)) ∈ lw_all := lw_g (lw_at lw_m5 70 rfl) rfl
theorem q1158 : (Jvm.Cond.methodLink "java/util/ArrayList" (123 : Nat) ({ cls := "java/util/ArrayList", name := "elementData", desc := "(I)Ljava/lang/Object;" } : Jvm.MethodName)) ∈ lw_all := lw_g (lw_at lw_m5 76 rfl) rfl
theorem q1159 : (Jvm.Cond.instanceMethod ({ cls := "java/util/ArrayList", name := "elementData", desc := "(I)Ljava/lang/Object;" } : Jvm.MethodName)) ∈ lw_all := lw_g (lw_at lw_m5 77 rfl) rfl
theorem q1160 : (Jvm.Cond.selects "java/util/ArrayList" ({ cls := "java/util/ArrayList", name := "elementData", desc := "(I)Ljava/lang/Object;" } : Jvm.MethodName) ({ cls := "java/util/ArrayList", name := "elementData", desc := "(I)Ljava/lang/Object;" } : Jvm.MethodName)) ∈ lw_all := lw_g (lw_at lw_m5 78 rfl) rfl
theorem q1161 : (Jvm.Cond.code ({ cls := "java/util/ArrayList", name := "elementData", desc := "(I)Ljava/lang/Object;" } : Jvm.MethodName) prog_57_method_18_code (2 : Nat) (Option.some (Jvm.ClassFile.FieldType.object "java/lang/Object"))) ∈ lw_all := lw_g (lw_at lw_m5 79 rfl) rfl
theorem q1204 : (Jvm.Cond.instanceMethod ({ cls := "java/util/ArrayList", name := "add", desc := "(Ljava/lang/Object;)Z" } : Jvm.MethodName)) ∈ lw_all := lw_g (lw_at lw_m5 122 rfl) rfl
theorem q1205 : (Jvm.Cond.selects "java/util/ArrayList" ({ cls := "java/util/ArrayList", name := "add", desc := "(Ljava/lang/Object;)Z" } : Jvm.MethodName) ({ cls := "java/util/ArrayList", name := "add", desc := "(Ljava/lang/Object;)Z" } : Jvm.MethodName)) ∈ lw_all := lw_g (lw_at lw_m5 123 rfl) rfl
theorem q1206 : (Jvm.Cond.code ({ cls := "java/util/ArrayList", name := "add", desc := "(Ljava/lang/Object;)Z" } : Jvm.MethodName) prog_57_method_25_code (2 : Nat) (Option.some Jvm.ClassFile.FieldType.boolean)) ∈ lw_all := lw_g (lw_at lw_m5 124 rfl) rfl
theorem q1207 : (Jvm.Cond.methodLink "java/util/ArrayList" (131 : Nat) ({ cls := "java/util/ArrayList", name := "add", desc := "(Ljava/lang/Object;[Ljava/lang/Object;I)V" } : Jvm.MethodName)) ∈ lw_all := lw_g (lw_at lw_m5 125 rfl) rfl
theorem q1208 : (Jvm.Cond.privateMethod ({ cls := "java/util/ArrayList", name := "add", desc := "(Ljava/lang/Object;[Ljava/lang/Object;I)V" } : Jvm.MethodName)) ∈ lw_tbl := lw_at lw_m5 126 rfl
theorem q1209 : (Jvm.Cond.instanceMethod ({ cls := "java/util/ArrayList", name := "add", desc := "(Ljava/lang/Object;[Ljava/lang/Object;I)V" } : Jvm.MethodName)) ∈ lw_all := lw_g (lw_at lw_m5 127 rfl) rfl
theorem q1210 : (Jvm.Cond.code ({ cls := "java/util/ArrayList", name := "add", desc := "(Ljava/lang/Object;[Ljava/lang/Object;I)V" } : Jvm.MethodName) prog_57_method_24_code (4 : Nat) (Option.none : Option Jvm.ClassFile.FieldType)) ∈ lw_all := lw_g (lw_at lw_m5 128 rfl) rfl
theorem q1211 : (Jvm.Cond.methodLink "java/util/ArrayList" (129 : Nat) ({ cls := "java/util/ArrayList", name := "grow", desc := "()[Ljava/lang/Object;" } : Jvm.MethodName)) ∈ lw_all := lw_g (lw_at lw_m5 129 rfl) rfl
theorem q1212 : (Jvm.Cond.privateMethod ({ cls := "java/util/ArrayList", name := "grow", desc := "()[Ljava/lang/Object;" } : Jvm.MethodName)) ∈ lw_tbl := lw_at lw_m5 130 rfl
theorem q1213 : (Jvm.Cond.instanceMethod ({ cls := "java/util/ArrayList", name := "grow", desc := "()[Ljava/lang/Object;" } : Jvm.MethodName)) ∈ lw_all := lw_g (lw_at lw_m5 131 rfl) rfl
theorem q1214 : (Jvm.Cond.code ({ cls := "java/util/ArrayList", name := "grow", desc := "()[Ljava/lang/Object;" } : Jvm.MethodName) prog_57_method_7_code (1 : Nat) (Option.some (Jvm.ClassFile.FieldType.array (Jvm.ClassFile.FieldType.object "java/lang/Object")))) ∈ lw_all := lw_g (lw_at lw_m5 132 rfl) rfl
theorem q1215 : (Jvm.Cond.methodLink "java/util/ArrayList" (69 : Nat) ({ cls := "java/util/ArrayList", name := "grow", desc := "(I)[Ljava/lang/Object;" } : Jvm.MethodName)) ∈ lw_all := lw_g (lw_at lw_m5 133 rfl) rfl
theorem q1216 : (Jvm.Cond.privateMethod ({ cls := "java/util/ArrayList", name := "grow", desc := "(I)[Ljava/lang/Object;" } : Jvm.MethodName)) ∈ lw_tbl := lw_at lw_m5 134 rfl
theorem q1217 : (Jvm.Cond.instanceMethod ({ cls := "java/util/ArrayList", name := "grow", desc := "(I)[Ljava/lang/Object;" } : Jvm.MethodName)) ∈ lw_all := lw_g (lw_at lw_m5 135 rfl) rfl
theorem q1218 : (Jvm.Cond.code ({ cls := "java/util/ArrayList", name := "grow", desc := "(I)[Ljava/lang/Object;" } : Jvm.MethodName) prog_57_method_6_code (4 : Nat) (Option.some (Jvm.ClassFile.FieldType.array (Jvm.ClassFile.FieldType.object "java/lang/Object")))) ∈ lw_all := lw_g (lw_at lw_m5 136 rfl) rfl
theorem q1219 : (Jvm.Cond.methodLink "java/util/ArrayList" (73 : Nat) ({ cls := "jdk/internal/util/ArraysSupport", name := "newLength", desc := "(III)I" } : Jvm.MethodName)) ∈ lw_all := lw_g (lw_at lw_m5 137 rfl) rfl
theorem q1229 : (Jvm.Cond.methodLink "java/util/ArrayList" (66 : Nat) ({ cls := "java/util/Arrays", name := "copyOf", desc := "([Ljava/lang/Object;I)[Ljava/lang/Object;" } : Jvm.MethodName)) ∈ lw_all := lw_g (lw_at lw_m5 147 rfl) rfl
theorem q1243 : (Jvm.Cond.methodLink "java/util/ArrayList" (79 : Nat) ({ cls := "java/lang/Math", name := "max", desc := "(II)I" } : Jvm.MethodName)) ∈ lw_all := lw_g (lw_at lw_m5 161 rfl) rfl
theorem q1244 : (Jvm.Cond.classLink "java/util/ArrayList" (7 : Nat) "java/lang/Object") ∈ lw_all := lw_g (lw_at lw_m5 162 rfl) rfl
theorem q1412 : (Jvm.Cond.instanceMethod ({ cls := "java/util/ArrayList", name := "<init>", desc := "(Ljava/util/Collection;)V" } : Jvm.MethodName)) ∈ lw_all := lw_g (lw_at lw_m6 90 rfl) rfl
theorem q1413 : (Jvm.Cond.code ({ cls := "java/util/ArrayList", name := "<init>", desc := "(Ljava/util/Collection;)V" } : Jvm.MethodName) prog_57_method_3_code (3 : Nat) (Option.none : Option Jvm.ClassFile.FieldType)) ∈ lw_all := lw_g (lw_at lw_m6 91 rfl) rfl
theorem q1414 : (Jvm.Cond.interfaceEntry "java/util/ArrayList" (42 : Nat)) ∈ lw_tbl := lw_at lw_m6 92 rfl
theorem q1415 : (Jvm.Cond.methodLink "java/util/ArrayList" (42 : Nat) ({ cls := "java/util/Collection", name := "toArray", desc := "()[Ljava/lang/Object;" } : Jvm.MethodName)) ∈ lw_all := lw_g (lw_at lw_m6 93 rfl) rfl
theorem q1418 : (Jvm.Cond.castable "java/util/ArrayList" "java/util/Collection") ∈ lw_tbl := lw_at lw_m6 96 rfl
theorem q1419 : (Jvm.Cond.selects "java/util/ArrayList" ({ cls := "java/util/Collection", name := "toArray", desc := "()[Ljava/lang/Object;" } : Jvm.MethodName) ({ cls := "java/util/ArrayList", name := "toArray", desc := "()[Ljava/lang/Object;" } : Jvm.MethodName)) ∈ lw_all := lw_g (lw_at lw_m6 97 rfl) rfl
theorem q1420 : (Jvm.Cond.unhidden "java/util/ArrayList" "toArray" "()[Ljava/lang/Object;") ∈ lw_tbl := lw_at lw_m6 98 rfl
theorem q1421 : (Jvm.Cond.instanceMethod ({ cls := "java/util/ArrayList", name := "toArray", desc := "()[Ljava/lang/Object;" } : Jvm.MethodName)) ∈ lw_all := lw_g (lw_at lw_m6 99 rfl) rfl
theorem q1422 : (Jvm.Cond.publicMethod ({ cls := "java/util/ArrayList", name := "toArray", desc := "()[Ljava/lang/Object;" } : Jvm.MethodName)) ∈ lw_tbl := lw_at lw_m6 100 rfl
theorem q1423 : (Jvm.Cond.code ({ cls := "java/util/ArrayList", name := "toArray", desc := "()[Ljava/lang/Object;" } : Jvm.MethodName) prog_57_method_16_code (1 : Nat) (Option.some (Jvm.ClassFile.FieldType.array (Jvm.ClassFile.FieldType.object "java/lang/Object")))) ∈ lw_all := lw_g (lw_at lw_m6 101 rfl) rfl
theorem q1440 : (Jvm.Cond.selects "java/util/ArrayList" ({ cls := "java/util/AbstractCollection", name := "size", desc := "()I" } : Jvm.MethodName) ({ cls := "java/util/ArrayList", name := "size", desc := "()I" } : Jvm.MethodName)) ∈ lw_all := lw_g (lw_at lw_m6 118 rfl) rfl
theorem q1461 : (Jvm.Cond.selects "java/util/ArrayList" ({ cls := "java/util/AbstractCollection", name := "iterator", desc := "()Ljava/util/Iterator;" } : Jvm.MethodName) ({ cls := "java/util/ArrayList", name := "iterator", desc := "()Ljava/util/Iterator;" } : Jvm.MethodName)) ∈ lw_all := lw_g (lw_at lw_m6 139 rfl) rfl
theorem q1462 : (Jvm.Cond.instanceMethod ({ cls := "java/util/ArrayList", name := "iterator", desc := "()Ljava/util/Iterator;" } : Jvm.MethodName)) ∈ lw_all := lw_g (lw_at lw_m6 140 rfl) rfl
theorem q1463 : (Jvm.Cond.code ({ cls := "java/util/ArrayList", name := "iterator", desc := "()Ljava/util/Iterator;" } : Jvm.MethodName) prog_57_method_55_code (1 : Nat) (Option.some (Jvm.ClassFile.FieldType.object "java/util/Iterator"))) ∈ lw_all := lw_g (lw_at lw_m6 141 rfl) rfl
theorem q1464 : (Jvm.Cond.classLink "java/util/ArrayList" (267 : Nat) "java/util/ArrayList$Itr") ∈ lw_all := lw_g (lw_at lw_m6 142 rfl) rfl
theorem q1466 : (Jvm.Cond.methodLink "java/util/ArrayList" (269 : Nat) ({ cls := "java/util/ArrayList$Itr", name := "<init>", desc := "(Ljava/util/ArrayList;)V" } : Jvm.MethodName)) ∈ lw_all := lw_g (lw_at lw_m6 144 rfl) rfl
theorem q1529 : (Jvm.Cond.interfaceEntry "java/util/ArrayList" (52 : Nat)) ∈ lw_tbl := lw_at lw_m6 207 rfl
theorem q1530 : (Jvm.Cond.methodLink "java/util/ArrayList" (52 : Nat) ({ cls := "java/util/Collection", name := "getClass", desc := "()Ljava/lang/Class;" } : Jvm.MethodName)) ∈ lw_all := lw_g (lw_at lw_m6 208 rfl) rfl
theorem q1533 : (Jvm.Cond.unhidden "java/util/ArrayList" "getClass" "()Ljava/lang/Class;") ∈ lw_tbl := lw_at lw_m6 211 rfl
theorem q1539 : (Jvm.Cond.classLink "java/util/ArrayList" (10 : Nat) "java/util/ArrayList") ∈ lw_all := lw_g (lw_at lw_m6 217 rfl) rfl
theorem q1540 : (Jvm.Cond.classLink "java/util/ArrayList" (56 : Nat) "[Ljava/lang/Object;") ∈ lw_all := lw_g (lw_at lw_m6 218 rfl) rfl
theorem q1541 : (Jvm.Cond.methodLink "java/util/ArrayList" (57 : Nat) ({ cls := "java/util/Arrays", name := "copyOf", desc := "([Ljava/lang/Object;ILjava/lang/Class;)[Ljava/lang/Object;" } : Jvm.MethodName)) ∈ lw_all := lw_g (lw_at lw_m6 219 rfl) rfl
theorem q1542 : (Jvm.Cond.fieldLink "java/util/ArrayList" (15 : Nat) "java/util/ArrayList" "EMPTY_ELEMENTDATA" "[Ljava/lang/Object;") ∈ lw_all := lw_g (lw_at lw_m6 220 rfl) rfl
theorem q1543 : (Jvm.Cond.laysStatic "java/util/ArrayList" "EMPTY_ELEMENTDATA" "[Ljava/lang/Object;") ∈ lw_tbl := lw_at lw_m6 221 rfl
theorem q2002 : (Jvm.Cond.instanceMethod ({ cls := "java/util/ArrayList", name := "addAll", desc := "(Ljava/util/Collection;)Z" } : Jvm.MethodName)) ∈ lw_all := lw_g (lw_at lw_m8 200 rfl) rfl
theorem q2003 : (Jvm.Cond.selects "java/util/ArrayList" ({ cls := "java/util/ArrayList", name := "addAll", desc := "(Ljava/util/Collection;)Z" } : Jvm.MethodName) ({ cls := "java/util/ArrayList", name := "addAll", desc := "(Ljava/util/Collection;)Z" } : Jvm.MethodName)) ∈ lw_all := lw_g (lw_at lw_m8 201 rfl) rfl
theorem q2004 : (Jvm.Cond.code ({ cls := "java/util/ArrayList", name := "addAll", desc := "(Ljava/util/Collection;)Z" } : Jvm.MethodName) prog_57_method_41_code (6 : Nat) (Option.some Jvm.ClassFile.FieldType.boolean)) ∈ lw_all := lw_g (lw_at lw_m8 202 rfl) rfl
theorem q2005 : (Jvm.Cond.methodLink "java/util/ArrayList" (112 : Nat) ({ cls := "java/lang/System", name := "arraycopy", desc := "(Ljava/lang/Object;ILjava/lang/Object;II)V" } : Jvm.MethodName)) ∈ lw_all := lw_g (lw_at lw_m8 203 rfl) rfl
theorem q3466 : (Jvm.Cond.castable "java/util/ArrayList" "java/lang/Object") ∈ lw_tbl := lw_at lw_m14 224 rfl
theorem in_J4 : ∀ w ∈ wsJ40, w ∈ lw_all := lw_in wsJ40 [265, 261, 263] (by decide +kernel) (by decide +kernel)

/-! java/util/BitSet -/
set_option maxRecDepth 100000
def RJ40 : String := "java/util/BitSet"
def TJ40 : u_T := fun k => match k with
  | 0 => ("java/util/BitSet", "words", "[J", false)
  | 1 => ("java/util/BitSet", "wordsInUse", "I", false)
  | _ => ("java/util/BitSet", "sizeIsSticky", "Z", false)
def tyJ40 : Nat → FieldType := fun k => match k with
  | 0 => .array .long
  | 1 => .int
  | _ => .boolean
abbrev wsJ400 : List Cond := u_ws RJ40 TJ40 3
theorem nmJ40 : ∀ a, a < 3 → ∀ b, b < 3 → a ≠ b → (TJ40 a).2.1 ≠ (TJ40 b).2.1 := by decide +kernel
theorem tyJ40_ok : ∀ k, k < 3 → parseFieldDescriptor (TJ40 k).2.2.1 = some (tyJ40 k) := by decide +kernel
abbrev cJ40_cardinality : ByteArray := prog_60_method_35_code
def yJ40_cardinality : MethodName := ⟨RJ40, "cardinality", "()I"⟩
def dkwJ40_cardinality_1 : List UInt8 := [132, 2, 1, 167, 255, 233, 27, 172]
abbrev dktJ40_cardinality_1 : List UInt8 := dkwJ40_cardinality_1 ++ []
def dkwJ40_cardinality_0 : List UInt8 := [3, 60, 3, 61, 28, 42, 180, 0, 7, 162, 0, 21, 27, 42, 180, 0, 11, 28, 47, 184, 0, 196, 96, 60]
abbrev dktJ40_cardinality_0 : List UInt8 := dkwJ40_cardinality_0 ++ dktJ40_cardinality_1
theorem dksJ40_cardinality_0 : cJ40_cardinality.data.toList.drop 0 = dktJ40_cardinality_0 := by decide +kernel
theorem dksJ40_cardinality_1 : cJ40_cardinality.data.toList.drop 24 = dktJ40_cardinality_1 := dk_seg dksJ40_cardinality_0 24 rfl rfl
theorem dJ40_cardinality_0 : decode cJ40_cardinality 0 = .ok (.iconst 0, 1) := dk_3 (dk_at dksJ40_cardinality_0 0 rfl rfl)
theorem dJ40_cardinality_1 : decode cJ40_cardinality 1 = .ok (.istore_n 1, 1) := dk_60 (dk_at dksJ40_cardinality_0 1 rfl rfl)
theorem dJ40_cardinality_2 : decode cJ40_cardinality 2 = .ok (.iconst 0, 1) := dk_3 (dk_at dksJ40_cardinality_0 2 rfl rfl)
theorem dJ40_cardinality_3 : decode cJ40_cardinality 3 = .ok (.istore_n 2, 1) := dk_61 (dk_at dksJ40_cardinality_0 3 rfl rfl)
theorem dJ40_cardinality_4 : decode cJ40_cardinality 4 = .ok (.iload_n 2, 1) := dk_28 (dk_at dksJ40_cardinality_0 4 rfl rfl)
theorem dJ40_cardinality_5 : decode cJ40_cardinality 5 = .ok (.aload_n 0, 1) := dk_42 (dk_at dksJ40_cardinality_0 5 rfl rfl)
theorem dJ40_cardinality_6 : decode cJ40_cardinality 6 = .ok (.getfield 7, 3) := dk_180 0 7 (dk_at dksJ40_cardinality_0 6 rfl rfl)
theorem dJ40_cardinality_9 : decode cJ40_cardinality 9 = .ok (.if_icmp .ge 21, 3) := dk_162 0 21 (dk_at dksJ40_cardinality_0 9 rfl rfl)
theorem dJ40_cardinality_12 : decode cJ40_cardinality 12 = .ok (.iload_n 1, 1) := dk_27 (dk_at dksJ40_cardinality_0 12 rfl rfl)
theorem dJ40_cardinality_13 : decode cJ40_cardinality 13 = .ok (.aload_n 0, 1) := dk_42 (dk_at dksJ40_cardinality_0 13 rfl rfl)
theorem dJ40_cardinality_14 : decode cJ40_cardinality 14 = .ok (.getfield 11, 3) := dk_180 0 11 (dk_at dksJ40_cardinality_0 14 rfl rfl)
theorem dJ40_cardinality_17 : decode cJ40_cardinality 17 = .ok (.iload_n 2, 1) := dk_28 (dk_at dksJ40_cardinality_0 17 rfl rfl)
theorem dJ40_cardinality_18 : decode cJ40_cardinality 18 = .ok (.laload, 1) := dk_47 (dk_at dksJ40_cardinality_0 18 rfl rfl)
theorem dJ40_cardinality_19 : decode cJ40_cardinality 19 = .ok (.invokestatic 196, 3) := dk_184 0 196 (dk_at dksJ40_cardinality_0 19 rfl rfl)
theorem dJ40_cardinality_22 : decode cJ40_cardinality 22 = .ok (.iadd, 1) := dk_96 (dk_at dksJ40_cardinality_0 22 rfl rfl)
theorem dJ40_cardinality_23 : decode cJ40_cardinality 23 = .ok (.istore_n 1, 1) := dk_60 (dk_at dksJ40_cardinality_0 23 rfl rfl)
theorem dJ40_cardinality_24 : decode cJ40_cardinality 24 = .ok (.iinc 2 1, 3) := dk_132 2 1 (dk_at dksJ40_cardinality_1 0 rfl rfl)
theorem dJ40_cardinality_27 : decode cJ40_cardinality 27 = .ok (.goto (-23), 3) := dk_167 255 233 (dk_at dksJ40_cardinality_1 3 rfl rfl)
theorem dJ40_cardinality_30 : decode cJ40_cardinality 30 = .ok (.iload_n 1, 1) := dk_27 (dk_at dksJ40_cardinality_1 6 rfl rfl)
theorem dJ40_cardinality_31 : decode cJ40_cardinality 31 = .ok (.ireturn, 1) := dk_172 (dk_at dksJ40_cardinality_1 7 rfl rfl)
abbrev cJ40_init : ByteArray := prog_60_method_4_code
def yJ40_init : MethodName := ⟨RJ40, "<init>", "()V"⟩
def dkwJ40_init_1 : List UInt8 := [181, 0, 24, 177]
abbrev dktJ40_init_1 : List UInt8 := dkwJ40_init_1 ++ []
def dkwJ40_init_0 : List UInt8 := [42, 183, 0, 21, 42, 3, 181, 0, 7, 42, 3, 181, 0, 24, 42, 16, 64, 182, 0, 27, 42, 3]
abbrev dktJ40_init_0 : List UInt8 := dkwJ40_init_0 ++ dktJ40_init_1
theorem dksJ40_init_0 : cJ40_init.data.toList.drop 0 = dktJ40_init_0 := by decide +kernel
theorem dksJ40_init_1 : cJ40_init.data.toList.drop 22 = dktJ40_init_1 := dk_seg dksJ40_init_0 22 rfl rfl
theorem dJ40_init_0 : decode cJ40_init 0 = .ok (.aload_n 0, 1) := dk_42 (dk_at dksJ40_init_0 0 rfl rfl)
theorem dJ40_init_1 : decode cJ40_init 1 = .ok (.invokespecial 21, 3) := dk_183 0 21 (dk_at dksJ40_init_0 1 rfl rfl)
theorem dJ40_init_4 : decode cJ40_init 4 = .ok (.aload_n 0, 1) := dk_42 (dk_at dksJ40_init_0 4 rfl rfl)
theorem dJ40_init_5 : decode cJ40_init 5 = .ok (.iconst 0, 1) := dk_3 (dk_at dksJ40_init_0 5 rfl rfl)
theorem dJ40_init_6 : decode cJ40_init 6 = .ok (.putfield 7, 3) := dk_181 0 7 (dk_at dksJ40_init_0 6 rfl rfl)
theorem dJ40_init_9 : decode cJ40_init 9 = .ok (.aload_n 0, 1) := dk_42 (dk_at dksJ40_init_0 9 rfl rfl)
theorem dJ40_init_10 : decode cJ40_init 10 = .ok (.iconst 0, 1) := dk_3 (dk_at dksJ40_init_0 10 rfl rfl)
theorem dJ40_init_11 : decode cJ40_init 11 = .ok (.putfield 24, 3) := dk_181 0 24 (dk_at dksJ40_init_0 11 rfl rfl)
theorem dJ40_init_14 : decode cJ40_init 14 = .ok (.aload_n 0, 1) := dk_42 (dk_at dksJ40_init_0 14 rfl rfl)
theorem dJ40_init_15 : decode cJ40_init 15 = .ok (.bipush 64, 2) := dk_16 64 (dk_at dksJ40_init_0 15 rfl rfl)
theorem dJ40_init_17 : decode cJ40_init 17 = .ok (.invokevirtual 27, 3) := dk_182 0 27 (dk_at dksJ40_init_0 17 rfl rfl)
theorem dJ40_init_20 : decode cJ40_init 20 = .ok (.aload_n 0, 1) := dk_42 (dk_at dksJ40_init_0 20 rfl rfl)
theorem dJ40_init_21 : decode cJ40_init 21 = .ok (.iconst 0, 1) := dk_3 (dk_at dksJ40_init_0 21 rfl rfl)
theorem dJ40_init_22 : decode cJ40_init 22 = .ok (.putfield 24, 3) := dk_181 0 24 (dk_at dksJ40_init_1 0 rfl rfl)
theorem dJ40_init_25 : decode cJ40_init 25 = .ok (.return_, 1) := dk_177 (dk_at dksJ40_init_1 3 rfl rfl)
abbrev cJ40_initWords : ByteArray := prog_60_method_6_code
def yJ40_initWords : MethodName := ⟨RJ40, "initWords", "(I)V"⟩
def dkwJ40_initWords_0 : List UInt8 := [42, 27, 4, 100, 184, 0, 52, 4, 96, 188, 11, 181, 0, 11, 177]
abbrev dktJ40_initWords_0 : List UInt8 := dkwJ40_initWords_0 ++ []
theorem dksJ40_initWords_0 : cJ40_initWords.data.toList.drop 0 = dktJ40_initWords_0 := by decide +kernel
theorem dJ40_initWords_0 : decode cJ40_initWords 0 = .ok (.aload_n 0, 1) := dk_42 (dk_at dksJ40_initWords_0 0 rfl rfl)
theorem dJ40_initWords_1 : decode cJ40_initWords 1 = .ok (.iload_n 1, 1) := dk_27 (dk_at dksJ40_initWords_0 1 rfl rfl)
theorem dJ40_initWords_2 : decode cJ40_initWords 2 = .ok (.iconst 1, 1) := dk_4 (dk_at dksJ40_initWords_0 2 rfl rfl)
theorem dJ40_initWords_3 : decode cJ40_initWords 3 = .ok (.isub, 1) := dk_100 (dk_at dksJ40_initWords_0 3 rfl rfl)
theorem dJ40_initWords_4 : decode cJ40_initWords 4 = .ok (.invokestatic 52, 3) := dk_184 0 52 (dk_at dksJ40_initWords_0 4 rfl rfl)
theorem dJ40_initWords_7 : decode cJ40_initWords 7 = .ok (.iconst 1, 1) := dk_4 (dk_at dksJ40_initWords_0 7 rfl rfl)
theorem dJ40_initWords_8 : decode cJ40_initWords 8 = .ok (.iadd, 1) := dk_96 (dk_at dksJ40_initWords_0 8 rfl rfl)
theorem dJ40_initWords_9 : decode cJ40_initWords 9 = .ok (.newarray .long, 2) := dk_188_11 (dk_at dksJ40_initWords_0 9 rfl rfl)
theorem dJ40_initWords_11 : decode cJ40_initWords 11 = .ok (.putfield 11, 3) := dk_181 0 11 (dk_at dksJ40_initWords_0 11 rfl rfl)
theorem dJ40_initWords_14 : decode cJ40_initWords 14 = .ok (.return_, 1) := dk_177 (dk_at dksJ40_initWords_0 14 rfl rfl)
abbrev cJ40_wordIndex : ByteArray := prog_60_method_1_code
def yJ40_wordIndex : MethodName := ⟨RJ40, "wordIndex", "(I)I"⟩
def dkwJ40_wordIndex_0 : List UInt8 := [26, 16, 6, 122, 172]
abbrev dktJ40_wordIndex_0 : List UInt8 := dkwJ40_wordIndex_0 ++ []
theorem dksJ40_wordIndex_0 : cJ40_wordIndex.data.toList.drop 0 = dktJ40_wordIndex_0 := by decide +kernel
theorem dJ40_wordIndex_0 : decode cJ40_wordIndex 0 = .ok (.iload_n 0, 1) := dk_26 (dk_at dksJ40_wordIndex_0 0 rfl rfl)
theorem dJ40_wordIndex_1 : decode cJ40_wordIndex 1 = .ok (.bipush 6, 2) := dk_16 6 (dk_at dksJ40_wordIndex_0 1 rfl rfl)
theorem dJ40_wordIndex_3 : decode cJ40_wordIndex 3 = .ok (.ishr, 1) := dk_122 (dk_at dksJ40_wordIndex_0 3 rfl rfl)
theorem dJ40_wordIndex_4 : decode cJ40_wordIndex 4 = .ok (.ireturn, 1) := dk_172 (dk_at dksJ40_wordIndex_0 4 rfl rfl)
abbrev cJ40_set : ByteArray := prog_60_method_19_code
def yJ40_set : MethodName := ⟨RJ40, "set", "(I)V"⟩
def dkwJ40_set_2 : List UInt8 := [10, 27, 121, 129, 80, 42, 182, 0, 56, 177]
abbrev dktJ40_set_2 : List UInt8 := dkwJ40_set_2 ++ []
def dkwJ40_set_1 : List UInt8 := [182, 0, 45, 183, 0, 146, 191, 27, 184, 0, 52, 61, 42, 28, 182, 0, 155, 42, 180, 0, 11, 28, 92, 47]
abbrev dktJ40_set_1 : List UInt8 := dkwJ40_set_1 ++ dktJ40_set_2
def dkwJ40_set_0 : List UInt8 := [27, 156, 0, 30, 187, 0, 142, 89, 187, 0, 33, 89, 183, 0, 35, 18, 153, 182, 0, 38, 27, 182, 0, 42]
abbrev dktJ40_set_0 : List UInt8 := dkwJ40_set_0 ++ dktJ40_set_1
theorem dksJ40_set_0 : cJ40_set.data.toList.drop 0 = dktJ40_set_0 := by decide +kernel
theorem dksJ40_set_1 : cJ40_set.data.toList.drop 24 = dktJ40_set_1 := dk_seg dksJ40_set_0 24 rfl rfl
theorem dksJ40_set_2 : cJ40_set.data.toList.drop 48 = dktJ40_set_2 := dk_seg dksJ40_set_1 24 rfl rfl
theorem dJ40_set_0 : decode cJ40_set 0 = .ok (.iload_n 1, 1) := dk_27 (dk_at dksJ40_set_0 0 rfl rfl)
theorem dJ40_set_1 : decode cJ40_set 1 = .ok (.ifCond .ge 30, 3) := dk_156 0 30 (dk_at dksJ40_set_0 1 rfl rfl)
theorem dJ40_set_4 : decode cJ40_set 4 = .ok (.new 142, 3) := dk_187 0 142 (dk_at dksJ40_set_0 4 rfl rfl)
theorem dJ40_set_7 : decode cJ40_set 7 = .ok (.dup, 1) := dk_89 (dk_at dksJ40_set_0 7 rfl rfl)
theorem dJ40_set_8 : decode cJ40_set 8 = .ok (.new 33, 3) := dk_187 0 33 (dk_at dksJ40_set_0 8 rfl rfl)
theorem dJ40_set_11 : decode cJ40_set 11 = .ok (.dup, 1) := dk_89 (dk_at dksJ40_set_0 11 rfl rfl)
theorem dJ40_set_12 : decode cJ40_set 12 = .ok (.invokespecial 35, 3) := dk_183 0 35 (dk_at dksJ40_set_0 12 rfl rfl)
theorem dJ40_set_15 : decode cJ40_set 15 = .ok (.ldc 153, 2) := dk_18 153 (dk_at dksJ40_set_0 15 rfl rfl)
theorem dJ40_set_17 : decode cJ40_set 17 = .ok (.invokevirtual 38, 3) := dk_182 0 38 (dk_at dksJ40_set_0 17 rfl rfl)
theorem dJ40_set_20 : decode cJ40_set 20 = .ok (.iload_n 1, 1) := dk_27 (dk_at dksJ40_set_0 20 rfl rfl)
theorem dJ40_set_21 : decode cJ40_set 21 = .ok (.invokevirtual 42, 3) := dk_182 0 42 (dk_at dksJ40_set_0 21 rfl rfl)
theorem dJ40_set_24 : decode cJ40_set 24 = .ok (.invokevirtual 45, 3) := dk_182 0 45 (dk_at dksJ40_set_1 0 rfl rfl)
theorem dJ40_set_27 : decode cJ40_set 27 = .ok (.invokespecial 146, 3) := dk_183 0 146 (dk_at dksJ40_set_1 3 rfl rfl)
theorem dJ40_set_30 : decode cJ40_set 30 = .ok (.athrow, 1) := dk_191 (dk_at dksJ40_set_1 6 rfl rfl)
theorem dJ40_set_31 : decode cJ40_set 31 = .ok (.iload_n 1, 1) := dk_27 (dk_at dksJ40_set_1 7 rfl rfl)
theorem dJ40_set_32 : decode cJ40_set 32 = .ok (.invokestatic 52, 3) := dk_184 0 52 (dk_at dksJ40_set_1 8 rfl rfl)
theorem dJ40_set_35 : decode cJ40_set 35 = .ok (.istore_n 2, 1) := dk_61 (dk_at dksJ40_set_1 11 rfl rfl)
theorem dJ40_set_36 : decode cJ40_set 36 = .ok (.aload_n 0, 1) := dk_42 (dk_at dksJ40_set_1 12 rfl rfl)
theorem dJ40_set_37 : decode cJ40_set 37 = .ok (.iload_n 2, 1) := dk_28 (dk_at dksJ40_set_1 13 rfl rfl)
theorem dJ40_set_38 : decode cJ40_set 38 = .ok (.invokevirtual 155, 3) := dk_182 0 155 (dk_at dksJ40_set_1 14 rfl rfl)
theorem dJ40_set_41 : decode cJ40_set 41 = .ok (.aload_n 0, 1) := dk_42 (dk_at dksJ40_set_1 17 rfl rfl)
theorem dJ40_set_42 : decode cJ40_set 42 = .ok (.getfield 11, 3) := dk_180 0 11 (dk_at dksJ40_set_1 18 rfl rfl)
theorem dJ40_set_45 : decode cJ40_set 45 = .ok (.iload_n 2, 1) := dk_28 (dk_at dksJ40_set_1 21 rfl rfl)
theorem dJ40_set_46 : decode cJ40_set 46 = .ok (.dup2, 1) := dk_92 (dk_at dksJ40_set_1 22 rfl rfl)
theorem dJ40_set_47 : decode cJ40_set 47 = .ok (.laload, 1) := dk_47 (dk_at dksJ40_set_1 23 rfl rfl)
theorem dJ40_set_48 : decode cJ40_set 48 = .ok (.lconst 1, 1) := dk_10 (dk_at dksJ40_set_2 0 rfl rfl)
theorem dJ40_set_49 : decode cJ40_set 49 = .ok (.iload_n 1, 1) := dk_27 (dk_at dksJ40_set_2 1 rfl rfl)
theorem dJ40_set_50 : decode cJ40_set 50 = .ok (.lshl, 1) := dk_121 (dk_at dksJ40_set_2 2 rfl rfl)
theorem dJ40_set_51 : decode cJ40_set 51 = .ok (.lor, 1) := dk_129 (dk_at dksJ40_set_2 3 rfl rfl)
theorem dJ40_set_52 : decode cJ40_set 52 = .ok (.lastore, 1) := dk_80 (dk_at dksJ40_set_2 4 rfl rfl)
theorem dJ40_set_53 : decode cJ40_set 53 = .ok (.aload_n 0, 1) := dk_42 (dk_at dksJ40_set_2 5 rfl rfl)
theorem dJ40_set_54 : decode cJ40_set 54 = .ok (.invokevirtual 56, 3) := dk_182 0 56 (dk_at dksJ40_set_2 6 rfl rfl)
theorem dJ40_set_57 : decode cJ40_set 57 = .ok (.return_, 1) := dk_177 (dk_at dksJ40_set_2 9 rfl rfl)
abbrev cJ40_expandTo : ByteArray := prog_60_method_15_code
def yJ40_expandTo : MethodName := ⟨RJ40, "expandTo", "(I)V"⟩
def dkwJ40_expandTo_0 : List UInt8 := [27, 4, 96, 61, 42, 180, 0, 7, 28, 162, 0, 13, 42, 28, 182, 0, 139, 42, 28, 181, 0, 7, 177]
abbrev dktJ40_expandTo_0 : List UInt8 := dkwJ40_expandTo_0 ++ []
theorem dksJ40_expandTo_0 : cJ40_expandTo.data.toList.drop 0 = dktJ40_expandTo_0 := by decide +kernel
theorem dJ40_expandTo_0 : decode cJ40_expandTo 0 = .ok (.iload_n 1, 1) := dk_27 (dk_at dksJ40_expandTo_0 0 rfl rfl)
theorem dJ40_expandTo_1 : decode cJ40_expandTo 1 = .ok (.iconst 1, 1) := dk_4 (dk_at dksJ40_expandTo_0 1 rfl rfl)
theorem dJ40_expandTo_2 : decode cJ40_expandTo 2 = .ok (.iadd, 1) := dk_96 (dk_at dksJ40_expandTo_0 2 rfl rfl)
theorem dJ40_expandTo_3 : decode cJ40_expandTo 3 = .ok (.istore_n 2, 1) := dk_61 (dk_at dksJ40_expandTo_0 3 rfl rfl)
theorem dJ40_expandTo_4 : decode cJ40_expandTo 4 = .ok (.aload_n 0, 1) := dk_42 (dk_at dksJ40_expandTo_0 4 rfl rfl)
theorem dJ40_expandTo_5 : decode cJ40_expandTo 5 = .ok (.getfield 7, 3) := dk_180 0 7 (dk_at dksJ40_expandTo_0 5 rfl rfl)
theorem dJ40_expandTo_8 : decode cJ40_expandTo 8 = .ok (.iload_n 2, 1) := dk_28 (dk_at dksJ40_expandTo_0 8 rfl rfl)
theorem dJ40_expandTo_9 : decode cJ40_expandTo 9 = .ok (.if_icmp .ge 13, 3) := dk_162 0 13 (dk_at dksJ40_expandTo_0 9 rfl rfl)
theorem dJ40_expandTo_12 : decode cJ40_expandTo 12 = .ok (.aload_n 0, 1) := dk_42 (dk_at dksJ40_expandTo_0 12 rfl rfl)
theorem dJ40_expandTo_13 : decode cJ40_expandTo 13 = .ok (.iload_n 2, 1) := dk_28 (dk_at dksJ40_expandTo_0 13 rfl rfl)
theorem dJ40_expandTo_14 : decode cJ40_expandTo 14 = .ok (.invokevirtual 139, 3) := dk_182 0 139 (dk_at dksJ40_expandTo_0 14 rfl rfl)
theorem dJ40_expandTo_17 : decode cJ40_expandTo 17 = .ok (.aload_n 0, 1) := dk_42 (dk_at dksJ40_expandTo_0 17 rfl rfl)
theorem dJ40_expandTo_18 : decode cJ40_expandTo 18 = .ok (.iload_n 2, 1) := dk_28 (dk_at dksJ40_expandTo_0 18 rfl rfl)
theorem dJ40_expandTo_19 : decode cJ40_expandTo 19 = .ok (.putfield 7, 3) := dk_181 0 7 (dk_at dksJ40_expandTo_0 19 rfl rfl)
theorem dJ40_expandTo_22 : decode cJ40_expandTo 22 = .ok (.return_, 1) := dk_177 (dk_at dksJ40_expandTo_0 22 rfl rfl)
abbrev cJ40_ensureCapacity : ByteArray := prog_60_method_14_code
def yJ40_ensureCapacity : MethodName := ⟨RJ40, "ensureCapacity", "(I)V"⟩
def dkwJ40_ensureCapacity_1 : List UInt8 := [180, 0, 11, 28, 184, 0, 59, 181, 0, 11, 42, 3, 181, 0, 24, 177]
abbrev dktJ40_ensureCapacity_1 : List UInt8 := dkwJ40_ensureCapacity_1 ++ []
def dkwJ40_ensureCapacity_0 : List UInt8 := [42, 180, 0, 11, 190, 27, 162, 0, 32, 5, 42, 180, 0, 11, 190, 104, 27, 184, 0, 133, 61, 42, 42]
abbrev dktJ40_ensureCapacity_0 : List UInt8 := dkwJ40_ensureCapacity_0 ++ dktJ40_ensureCapacity_1
theorem dksJ40_ensureCapacity_0 : cJ40_ensureCapacity.data.toList.drop 0 = dktJ40_ensureCapacity_0 := by decide +kernel
theorem dksJ40_ensureCapacity_1 : cJ40_ensureCapacity.data.toList.drop 23 = dktJ40_ensureCapacity_1 := dk_seg dksJ40_ensureCapacity_0 23 rfl rfl
theorem dJ40_ensureCapacity_0 : decode cJ40_ensureCapacity 0 = .ok (.aload_n 0, 1) := dk_42 (dk_at dksJ40_ensureCapacity_0 0 rfl rfl)
theorem dJ40_ensureCapacity_1 : decode cJ40_ensureCapacity 1 = .ok (.getfield 11, 3) := dk_180 0 11 (dk_at dksJ40_ensureCapacity_0 1 rfl rfl)
theorem dJ40_ensureCapacity_4 : decode cJ40_ensureCapacity 4 = .ok (.arraylength, 1) := dk_190 (dk_at dksJ40_ensureCapacity_0 4 rfl rfl)
theorem dJ40_ensureCapacity_5 : decode cJ40_ensureCapacity 5 = .ok (.iload_n 1, 1) := dk_27 (dk_at dksJ40_ensureCapacity_0 5 rfl rfl)
theorem dJ40_ensureCapacity_6 : decode cJ40_ensureCapacity 6 = .ok (.if_icmp .ge 32, 3) := dk_162 0 32 (dk_at dksJ40_ensureCapacity_0 6 rfl rfl)
theorem dJ40_ensureCapacity_9 : decode cJ40_ensureCapacity 9 = .ok (.iconst 2, 1) := dk_5 (dk_at dksJ40_ensureCapacity_0 9 rfl rfl)
theorem dJ40_ensureCapacity_10 : decode cJ40_ensureCapacity 10 = .ok (.aload_n 0, 1) := dk_42 (dk_at dksJ40_ensureCapacity_0 10 rfl rfl)
theorem dJ40_ensureCapacity_11 : decode cJ40_ensureCapacity 11 = .ok (.getfield 11, 3) := dk_180 0 11 (dk_at dksJ40_ensureCapacity_0 11 rfl rfl)
theorem dJ40_ensureCapacity_14 : decode cJ40_ensureCapacity 14 = .ok (.arraylength, 1) := dk_190 (dk_at dksJ40_ensureCapacity_0 14 rfl rfl)
theorem dJ40_ensureCapacity_15 : decode cJ40_ensureCapacity 15 = .ok (.imul, 1) := dk_104 (dk_at dksJ40_ensureCapacity_0 15 rfl rfl)
theorem dJ40_ensureCapacity_16 : decode cJ40_ensureCapacity 16 = .ok (.iload_n 1, 1) := dk_27 (dk_at dksJ40_ensureCapacity_0 16 rfl rfl)
theorem dJ40_ensureCapacity_17 : decode cJ40_ensureCapacity 17 = .ok (.invokestatic 133, 3) := dk_184 0 133 (dk_at dksJ40_ensureCapacity_0 17 rfl rfl)
theorem dJ40_ensureCapacity_20 : decode cJ40_ensureCapacity 20 = .ok (.istore_n 2, 1) := dk_61 (dk_at dksJ40_ensureCapacity_0 20 rfl rfl)
theorem dJ40_ensureCapacity_21 : decode cJ40_ensureCapacity 21 = .ok (.aload_n 0, 1) := dk_42 (dk_at dksJ40_ensureCapacity_0 21 rfl rfl)
theorem dJ40_ensureCapacity_22 : decode cJ40_ensureCapacity 22 = .ok (.aload_n 0, 1) := dk_42 (dk_at dksJ40_ensureCapacity_0 22 rfl rfl)
theorem dJ40_ensureCapacity_23 : decode cJ40_ensureCapacity 23 = .ok (.getfield 11, 3) := dk_180 0 11 (dk_at dksJ40_ensureCapacity_1 0 rfl rfl)
theorem dJ40_ensureCapacity_26 : decode cJ40_ensureCapacity 26 = .ok (.iload_n 2, 1) := dk_28 (dk_at dksJ40_ensureCapacity_1 3 rfl rfl)
theorem dJ40_ensureCapacity_27 : decode cJ40_ensureCapacity 27 = .ok (.invokestatic 59, 3) := dk_184 0 59 (dk_at dksJ40_ensureCapacity_1 4 rfl rfl)
theorem dJ40_ensureCapacity_30 : decode cJ40_ensureCapacity 30 = .ok (.putfield 11, 3) := dk_181 0 11 (dk_at dksJ40_ensureCapacity_1 7 rfl rfl)
theorem dJ40_ensureCapacity_33 : decode cJ40_ensureCapacity 33 = .ok (.aload_n 0, 1) := dk_42 (dk_at dksJ40_ensureCapacity_1 10 rfl rfl)
theorem dJ40_ensureCapacity_34 : decode cJ40_ensureCapacity 34 = .ok (.iconst 0, 1) := dk_3 (dk_at dksJ40_ensureCapacity_1 11 rfl rfl)
theorem dJ40_ensureCapacity_35 : decode cJ40_ensureCapacity 35 = .ok (.putfield 24, 3) := dk_181 0 24 (dk_at dksJ40_ensureCapacity_1 12 rfl rfl)
theorem dJ40_ensureCapacity_38 : decode cJ40_ensureCapacity 38 = .ok (.return_, 1) := dk_177 (dk_at dksJ40_ensureCapacity_1 15 rfl rfl)
abbrev cJ40_checkInvariants : ByteArray := prog_60_method_2_code
def yJ40_checkInvariants : MethodName := ⟨RJ40, "checkInvariants", "()V"⟩
def dkwJ40_checkInvariants_4 : List UInt8 := [180, 0, 7, 47, 9, 148, 153, 0, 11, 187, 0, 15, 89, 183, 0, 17, 191, 177]
abbrev dktJ40_checkInvariants_4 : List UInt8 := dkwJ40_checkInvariants_4 ++ []
def dkwJ40_checkInvariants_3 : List UInt8 := [178, 0, 3, 154, 0, 37, 42, 180, 0, 7, 42, 180, 0, 11, 190, 159, 0, 25, 42, 180, 0, 11, 42]
abbrev dktJ40_checkInvariants_3 : List UInt8 := dkwJ40_checkInvariants_3 ++ dktJ40_checkInvariants_4
def dkwJ40_checkInvariants_2 : List UInt8 := [155, 0, 15, 42, 180, 0, 7, 42, 180, 0, 11, 190, 164, 0, 11, 187, 0, 15, 89, 183, 0, 17, 191]
abbrev dktJ40_checkInvariants_2 : List UInt8 := dkwJ40_checkInvariants_2 ++ dktJ40_checkInvariants_3
def dkwJ40_checkInvariants_1 : List UInt8 := [9, 148, 154, 0, 11, 187, 0, 15, 89, 183, 0, 17, 191, 178, 0, 3, 154, 0, 30, 42, 180, 0, 7]
abbrev dktJ40_checkInvariants_1 : List UInt8 := dkwJ40_checkInvariants_1 ++ dktJ40_checkInvariants_2
def dkwJ40_checkInvariants_0 : List UInt8 := [178, 0, 3, 154, 0, 34, 42, 180, 0, 7, 153, 0, 27, 42, 180, 0, 11, 42, 180, 0, 7, 4, 100, 47]
abbrev dktJ40_checkInvariants_0 : List UInt8 := dkwJ40_checkInvariants_0 ++ dktJ40_checkInvariants_1
theorem dksJ40_checkInvariants_0 : cJ40_checkInvariants.data.toList.drop 0 = dktJ40_checkInvariants_0 := by decide +kernel
theorem dksJ40_checkInvariants_1 : cJ40_checkInvariants.data.toList.drop 24 = dktJ40_checkInvariants_1 := dk_seg dksJ40_checkInvariants_0 24 rfl rfl
theorem dksJ40_checkInvariants_2 : cJ40_checkInvariants.data.toList.drop 47 = dktJ40_checkInvariants_2 := dk_seg dksJ40_checkInvariants_1 23 rfl rfl
theorem dksJ40_checkInvariants_3 : cJ40_checkInvariants.data.toList.drop 70 = dktJ40_checkInvariants_3 := dk_seg dksJ40_checkInvariants_2 23 rfl rfl
theorem dksJ40_checkInvariants_4 : cJ40_checkInvariants.data.toList.drop 93 = dktJ40_checkInvariants_4 := dk_seg dksJ40_checkInvariants_3 23 rfl rfl
theorem dJ40_checkInvariants_0 : decode cJ40_checkInvariants 0 = .ok (.getstatic 3, 3) := dk_178 0 3 (dk_at dksJ40_checkInvariants_0 0 rfl rfl)
theorem dJ40_checkInvariants_3 : decode cJ40_checkInvariants 3 = .ok (.ifCond .ne 34, 3) := dk_154 0 34 (dk_at dksJ40_checkInvariants_0 3 rfl rfl)
theorem dJ40_checkInvariants_6 : decode cJ40_checkInvariants 6 = .ok (.aload_n 0, 1) := dk_42 (dk_at dksJ40_checkInvariants_0 6 rfl rfl)
theorem dJ40_checkInvariants_7 : decode cJ40_checkInvariants 7 = .ok (.getfield 7, 3) := dk_180 0 7 (dk_at dksJ40_checkInvariants_0 7 rfl rfl)
theorem dJ40_checkInvariants_10 : decode cJ40_checkInvariants 10 = .ok (.ifCond .eq 27, 3) := dk_153 0 27 (dk_at dksJ40_checkInvariants_0 10 rfl rfl)
theorem dJ40_checkInvariants_13 : decode cJ40_checkInvariants 13 = .ok (.aload_n 0, 1) := dk_42 (dk_at dksJ40_checkInvariants_0 13 rfl rfl)
theorem dJ40_checkInvariants_14 : decode cJ40_checkInvariants 14 = .ok (.getfield 11, 3) := dk_180 0 11 (dk_at dksJ40_checkInvariants_0 14 rfl rfl)
theorem dJ40_checkInvariants_17 : decode cJ40_checkInvariants 17 = .ok (.aload_n 0, 1) := dk_42 (dk_at dksJ40_checkInvariants_0 17 rfl rfl)
theorem dJ40_checkInvariants_18 : decode cJ40_checkInvariants 18 = .ok (.getfield 7, 3) := dk_180 0 7 (dk_at dksJ40_checkInvariants_0 18 rfl rfl)
theorem dJ40_checkInvariants_21 : decode cJ40_checkInvariants 21 = .ok (.iconst 1, 1) := dk_4 (dk_at dksJ40_checkInvariants_0 21 rfl rfl)
theorem dJ40_checkInvariants_22 : decode cJ40_checkInvariants 22 = .ok (.isub, 1) := dk_100 (dk_at dksJ40_checkInvariants_0 22 rfl rfl)
theorem dJ40_checkInvariants_23 : decode cJ40_checkInvariants 23 = .ok (.laload, 1) := dk_47 (dk_at dksJ40_checkInvariants_0 23 rfl rfl)
theorem dJ40_checkInvariants_24 : decode cJ40_checkInvariants 24 = .ok (.lconst 0, 1) := dk_9 (dk_at dksJ40_checkInvariants_1 0 rfl rfl)
theorem dJ40_checkInvariants_25 : decode cJ40_checkInvariants 25 = .ok (.lcmp, 1) := dk_148 (dk_at dksJ40_checkInvariants_1 1 rfl rfl)
theorem dJ40_checkInvariants_26 : decode cJ40_checkInvariants 26 = .ok (.ifCond .ne 11, 3) := dk_154 0 11 (dk_at dksJ40_checkInvariants_1 2 rfl rfl)
theorem dJ40_checkInvariants_29 : decode cJ40_checkInvariants 29 = .ok (.new 15, 3) := dk_187 0 15 (dk_at dksJ40_checkInvariants_1 5 rfl rfl)
theorem dJ40_checkInvariants_32 : decode cJ40_checkInvariants 32 = .ok (.dup, 1) := dk_89 (dk_at dksJ40_checkInvariants_1 8 rfl rfl)
theorem dJ40_checkInvariants_33 : decode cJ40_checkInvariants 33 = .ok (.invokespecial 17, 3) := dk_183 0 17 (dk_at dksJ40_checkInvariants_1 9 rfl rfl)
theorem dJ40_checkInvariants_36 : decode cJ40_checkInvariants 36 = .ok (.athrow, 1) := dk_191 (dk_at dksJ40_checkInvariants_1 12 rfl rfl)
theorem dJ40_checkInvariants_37 : decode cJ40_checkInvariants 37 = .ok (.getstatic 3, 3) := dk_178 0 3 (dk_at dksJ40_checkInvariants_1 13 rfl rfl)
theorem dJ40_checkInvariants_40 : decode cJ40_checkInvariants 40 = .ok (.ifCond .ne 30, 3) := dk_154 0 30 (dk_at dksJ40_checkInvariants_1 16 rfl rfl)
theorem dJ40_checkInvariants_43 : decode cJ40_checkInvariants 43 = .ok (.aload_n 0, 1) := dk_42 (dk_at dksJ40_checkInvariants_1 19 rfl rfl)
theorem dJ40_checkInvariants_44 : decode cJ40_checkInvariants 44 = .ok (.getfield 7, 3) := dk_180 0 7 (dk_at dksJ40_checkInvariants_1 20 rfl rfl)
theorem dJ40_checkInvariants_47 : decode cJ40_checkInvariants 47 = .ok (.ifCond .lt 15, 3) := dk_155 0 15 (dk_at dksJ40_checkInvariants_2 0 rfl rfl)
theorem dJ40_checkInvariants_50 : decode cJ40_checkInvariants 50 = .ok (.aload_n 0, 1) := dk_42 (dk_at dksJ40_checkInvariants_2 3 rfl rfl)
theorem dJ40_checkInvariants_51 : decode cJ40_checkInvariants 51 = .ok (.getfield 7, 3) := dk_180 0 7 (dk_at dksJ40_checkInvariants_2 4 rfl rfl)
theorem dJ40_checkInvariants_54 : decode cJ40_checkInvariants 54 = .ok (.aload_n 0, 1) := dk_42 (dk_at dksJ40_checkInvariants_2 7 rfl rfl)
theorem dJ40_checkInvariants_55 : decode cJ40_checkInvariants 55 = .ok (.getfield 11, 3) := dk_180 0 11 (dk_at dksJ40_checkInvariants_2 8 rfl rfl)
theorem dJ40_checkInvariants_58 : decode cJ40_checkInvariants 58 = .ok (.arraylength, 1) := dk_190 (dk_at dksJ40_checkInvariants_2 11 rfl rfl)
theorem dJ40_checkInvariants_59 : decode cJ40_checkInvariants 59 = .ok (.if_icmp .le 11, 3) := dk_164 0 11 (dk_at dksJ40_checkInvariants_2 12 rfl rfl)
theorem dJ40_checkInvariants_62 : decode cJ40_checkInvariants 62 = .ok (.new 15, 3) := dk_187 0 15 (dk_at dksJ40_checkInvariants_2 15 rfl rfl)
theorem dJ40_checkInvariants_65 : decode cJ40_checkInvariants 65 = .ok (.dup, 1) := dk_89 (dk_at dksJ40_checkInvariants_2 18 rfl rfl)
theorem dJ40_checkInvariants_66 : decode cJ40_checkInvariants 66 = .ok (.invokespecial 17, 3) := dk_183 0 17 (dk_at dksJ40_checkInvariants_2 19 rfl rfl)
theorem dJ40_checkInvariants_69 : decode cJ40_checkInvariants 69 = .ok (.athrow, 1) := dk_191 (dk_at dksJ40_checkInvariants_2 22 rfl rfl)
theorem dJ40_checkInvariants_70 : decode cJ40_checkInvariants 70 = .ok (.getstatic 3, 3) := dk_178 0 3 (dk_at dksJ40_checkInvariants_3 0 rfl rfl)
theorem dJ40_checkInvariants_73 : decode cJ40_checkInvariants 73 = .ok (.ifCond .ne 37, 3) := dk_154 0 37 (dk_at dksJ40_checkInvariants_3 3 rfl rfl)
theorem dJ40_checkInvariants_76 : decode cJ40_checkInvariants 76 = .ok (.aload_n 0, 1) := dk_42 (dk_at dksJ40_checkInvariants_3 6 rfl rfl)
theorem dJ40_checkInvariants_77 : decode cJ40_checkInvariants 77 = .ok (.getfield 7, 3) := dk_180 0 7 (dk_at dksJ40_checkInvariants_3 7 rfl rfl)
theorem dJ40_checkInvariants_80 : decode cJ40_checkInvariants 80 = .ok (.aload_n 0, 1) := dk_42 (dk_at dksJ40_checkInvariants_3 10 rfl rfl)
theorem dJ40_checkInvariants_81 : decode cJ40_checkInvariants 81 = .ok (.getfield 11, 3) := dk_180 0 11 (dk_at dksJ40_checkInvariants_3 11 rfl rfl)
theorem dJ40_checkInvariants_84 : decode cJ40_checkInvariants 84 = .ok (.arraylength, 1) := dk_190 (dk_at dksJ40_checkInvariants_3 14 rfl rfl)
theorem dJ40_checkInvariants_85 : decode cJ40_checkInvariants 85 = .ok (.if_icmp .eq 25, 3) := dk_159 0 25 (dk_at dksJ40_checkInvariants_3 15 rfl rfl)
theorem dJ40_checkInvariants_88 : decode cJ40_checkInvariants 88 = .ok (.aload_n 0, 1) := dk_42 (dk_at dksJ40_checkInvariants_3 18 rfl rfl)
theorem dJ40_checkInvariants_89 : decode cJ40_checkInvariants 89 = .ok (.getfield 11, 3) := dk_180 0 11 (dk_at dksJ40_checkInvariants_3 19 rfl rfl)
theorem dJ40_checkInvariants_92 : decode cJ40_checkInvariants 92 = .ok (.aload_n 0, 1) := dk_42 (dk_at dksJ40_checkInvariants_3 22 rfl rfl)
theorem dJ40_checkInvariants_93 : decode cJ40_checkInvariants 93 = .ok (.getfield 7, 3) := dk_180 0 7 (dk_at dksJ40_checkInvariants_4 0 rfl rfl)
theorem dJ40_checkInvariants_96 : decode cJ40_checkInvariants 96 = .ok (.laload, 1) := dk_47 (dk_at dksJ40_checkInvariants_4 3 rfl rfl)
theorem dJ40_checkInvariants_97 : decode cJ40_checkInvariants 97 = .ok (.lconst 0, 1) := dk_9 (dk_at dksJ40_checkInvariants_4 4 rfl rfl)
theorem dJ40_checkInvariants_98 : decode cJ40_checkInvariants 98 = .ok (.lcmp, 1) := dk_148 (dk_at dksJ40_checkInvariants_4 5 rfl rfl)
theorem dJ40_checkInvariants_99 : decode cJ40_checkInvariants 99 = .ok (.ifCond .eq 11, 3) := dk_153 0 11 (dk_at dksJ40_checkInvariants_4 6 rfl rfl)
theorem dJ40_checkInvariants_102 : decode cJ40_checkInvariants 102 = .ok (.new 15, 3) := dk_187 0 15 (dk_at dksJ40_checkInvariants_4 9 rfl rfl)
theorem dJ40_checkInvariants_105 : decode cJ40_checkInvariants 105 = .ok (.dup, 1) := dk_89 (dk_at dksJ40_checkInvariants_4 12 rfl rfl)
theorem dJ40_checkInvariants_106 : decode cJ40_checkInvariants 106 = .ok (.invokespecial 17, 3) := dk_183 0 17 (dk_at dksJ40_checkInvariants_4 13 rfl rfl)
theorem dJ40_checkInvariants_109 : decode cJ40_checkInvariants 109 = .ok (.athrow, 1) := dk_191 (dk_at dksJ40_checkInvariants_4 16 rfl rfl)
theorem dJ40_checkInvariants_110 : decode cJ40_checkInvariants 110 = .ok (.return_, 1) := dk_177 (dk_at dksJ40_checkInvariants_4 17 rfl rfl)
abbrev cJ40_clone : ByteArray := prog_60_method_43_code
def yJ40_clone : MethodName := ⟨RJ40, "clone", "()Ljava/lang/Object;"⟩
def dkwJ40_clone_2 : List UInt8 := [191]
abbrev dktJ40_clone_2 : List UInt8 := dkwJ40_clone_2 ++ []
def dkwJ40_clone_1 : List UInt8 := [182, 0, 214, 192, 0, 215, 181, 0, 11, 43, 182, 0, 56, 43, 176, 76, 187, 0, 218, 89, 43, 183, 0, 220]
abbrev dktJ40_clone_1 : List UInt8 := dkwJ40_clone_1 ++ dktJ40_clone_2
def dkwJ40_clone_0 : List UInt8 := [42, 180, 0, 24, 154, 0, 7, 42, 182, 0, 207, 42, 183, 0, 210, 192, 0, 1, 76, 43, 42, 180, 0, 11]
abbrev dktJ40_clone_0 : List UInt8 := dkwJ40_clone_0 ++ dktJ40_clone_1
theorem dksJ40_clone_0 : cJ40_clone.data.toList.drop 0 = dktJ40_clone_0 := by decide +kernel
theorem dksJ40_clone_1 : cJ40_clone.data.toList.drop 24 = dktJ40_clone_1 := dk_seg dksJ40_clone_0 24 rfl rfl
theorem dksJ40_clone_2 : cJ40_clone.data.toList.drop 48 = dktJ40_clone_2 := dk_seg dksJ40_clone_1 24 rfl rfl
theorem dJ40_clone_0 : decode cJ40_clone 0 = .ok (.aload_n 0, 1) := dk_42 (dk_at dksJ40_clone_0 0 rfl rfl)
theorem dJ40_clone_1 : decode cJ40_clone 1 = .ok (.getfield 24, 3) := dk_180 0 24 (dk_at dksJ40_clone_0 1 rfl rfl)
theorem dJ40_clone_4 : decode cJ40_clone 4 = .ok (.ifCond .ne 7, 3) := dk_154 0 7 (dk_at dksJ40_clone_0 4 rfl rfl)
theorem dJ40_clone_7 : decode cJ40_clone 7 = .ok (.aload_n 0, 1) := dk_42 (dk_at dksJ40_clone_0 7 rfl rfl)
theorem dJ40_clone_8 : decode cJ40_clone 8 = .ok (.invokevirtual 207, 3) := dk_182 0 207 (dk_at dksJ40_clone_0 8 rfl rfl)
theorem dJ40_clone_11 : decode cJ40_clone 11 = .ok (.aload_n 0, 1) := dk_42 (dk_at dksJ40_clone_0 11 rfl rfl)
theorem dJ40_clone_12 : decode cJ40_clone 12 = .ok (.invokespecial 210, 3) := dk_183 0 210 (dk_at dksJ40_clone_0 12 rfl rfl)
theorem dJ40_clone_15 : decode cJ40_clone 15 = .ok (.checkcast 1, 3) := dk_192 0 1 (dk_at dksJ40_clone_0 15 rfl rfl)
theorem dJ40_clone_18 : decode cJ40_clone 18 = .ok (.astore_n 1, 1) := dk_76 (dk_at dksJ40_clone_0 18 rfl rfl)
theorem dJ40_clone_19 : decode cJ40_clone 19 = .ok (.aload_n 1, 1) := dk_43 (dk_at dksJ40_clone_0 19 rfl rfl)
theorem dJ40_clone_20 : decode cJ40_clone 20 = .ok (.aload_n 0, 1) := dk_42 (dk_at dksJ40_clone_0 20 rfl rfl)
theorem dJ40_clone_21 : decode cJ40_clone 21 = .ok (.getfield 11, 3) := dk_180 0 11 (dk_at dksJ40_clone_0 21 rfl rfl)
theorem dJ40_clone_24 : decode cJ40_clone 24 = .ok (.invokevirtual 214, 3) := dk_182 0 214 (dk_at dksJ40_clone_1 0 rfl rfl)
theorem dJ40_clone_27 : decode cJ40_clone 27 = .ok (.checkcast 215, 3) := dk_192 0 215 (dk_at dksJ40_clone_1 3 rfl rfl)
theorem dJ40_clone_30 : decode cJ40_clone 30 = .ok (.putfield 11, 3) := dk_181 0 11 (dk_at dksJ40_clone_1 6 rfl rfl)
theorem dJ40_clone_33 : decode cJ40_clone 33 = .ok (.aload_n 1, 1) := dk_43 (dk_at dksJ40_clone_1 9 rfl rfl)
theorem dJ40_clone_34 : decode cJ40_clone 34 = .ok (.invokevirtual 56, 3) := dk_182 0 56 (dk_at dksJ40_clone_1 10 rfl rfl)
theorem dJ40_clone_37 : decode cJ40_clone 37 = .ok (.aload_n 1, 1) := dk_43 (dk_at dksJ40_clone_1 13 rfl rfl)
theorem dJ40_clone_38 : decode cJ40_clone 38 = .ok (.areturn, 1) := dk_176 (dk_at dksJ40_clone_1 14 rfl rfl)
theorem dJ40_clone_39 : decode cJ40_clone 39 = .ok (.astore_n 1, 1) := dk_76 (dk_at dksJ40_clone_1 15 rfl rfl)
theorem dJ40_clone_40 : decode cJ40_clone 40 = .ok (.new 218, 3) := dk_187 0 218 (dk_at dksJ40_clone_1 16 rfl rfl)
theorem dJ40_clone_43 : decode cJ40_clone 43 = .ok (.dup, 1) := dk_89 (dk_at dksJ40_clone_1 19 rfl rfl)
theorem dJ40_clone_44 : decode cJ40_clone 44 = .ok (.aload_n 1, 1) := dk_43 (dk_at dksJ40_clone_1 20 rfl rfl)
theorem dJ40_clone_45 : decode cJ40_clone 45 = .ok (.invokespecial 220, 3) := dk_183 0 220 (dk_at dksJ40_clone_1 21 rfl rfl)
theorem dJ40_clone_48 : decode cJ40_clone 48 = .ok (.athrow, 1) := dk_191 (dk_at dksJ40_clone_2 0 rfl rfl)
abbrev cJ40_trimToSize : ByteArray := prog_60_method_44_code
def yJ40_trimToSize : MethodName := ⟨RJ40, "trimToSize", "()V"⟩
def dkwJ40_trimToSize_1 : List UInt8 := [181, 0, 11, 42, 182, 0, 56, 177]
abbrev dktJ40_trimToSize_1 : List UInt8 := dkwJ40_trimToSize_1 ++ []
def dkwJ40_trimToSize_0 : List UInt8 := [42, 180, 0, 7, 42, 180, 0, 11, 190, 159, 0, 22, 42, 42, 180, 0, 11, 42, 180, 0, 7, 184, 0, 59]
abbrev dktJ40_trimToSize_0 : List UInt8 := dkwJ40_trimToSize_0 ++ dktJ40_trimToSize_1
theorem dksJ40_trimToSize_0 : cJ40_trimToSize.data.toList.drop 0 = dktJ40_trimToSize_0 := by decide +kernel
theorem dksJ40_trimToSize_1 : cJ40_trimToSize.data.toList.drop 24 = dktJ40_trimToSize_1 := dk_seg dksJ40_trimToSize_0 24 rfl rfl
theorem dJ40_trimToSize_0 : decode cJ40_trimToSize 0 = .ok (.aload_n 0, 1) := dk_42 (dk_at dksJ40_trimToSize_0 0 rfl rfl)
theorem dJ40_trimToSize_1 : decode cJ40_trimToSize 1 = .ok (.getfield 7, 3) := dk_180 0 7 (dk_at dksJ40_trimToSize_0 1 rfl rfl)
theorem dJ40_trimToSize_4 : decode cJ40_trimToSize 4 = .ok (.aload_n 0, 1) := dk_42 (dk_at dksJ40_trimToSize_0 4 rfl rfl)
theorem dJ40_trimToSize_5 : decode cJ40_trimToSize 5 = .ok (.getfield 11, 3) := dk_180 0 11 (dk_at dksJ40_trimToSize_0 5 rfl rfl)
theorem dJ40_trimToSize_8 : decode cJ40_trimToSize 8 = .ok (.arraylength, 1) := dk_190 (dk_at dksJ40_trimToSize_0 8 rfl rfl)
theorem dJ40_trimToSize_9 : decode cJ40_trimToSize 9 = .ok (.if_icmp .eq 22, 3) := dk_159 0 22 (dk_at dksJ40_trimToSize_0 9 rfl rfl)
theorem dJ40_trimToSize_12 : decode cJ40_trimToSize 12 = .ok (.aload_n 0, 1) := dk_42 (dk_at dksJ40_trimToSize_0 12 rfl rfl)
theorem dJ40_trimToSize_13 : decode cJ40_trimToSize 13 = .ok (.aload_n 0, 1) := dk_42 (dk_at dksJ40_trimToSize_0 13 rfl rfl)
theorem dJ40_trimToSize_14 : decode cJ40_trimToSize 14 = .ok (.getfield 11, 3) := dk_180 0 11 (dk_at dksJ40_trimToSize_0 14 rfl rfl)
theorem dJ40_trimToSize_17 : decode cJ40_trimToSize 17 = .ok (.aload_n 0, 1) := dk_42 (dk_at dksJ40_trimToSize_0 17 rfl rfl)
theorem dJ40_trimToSize_18 : decode cJ40_trimToSize 18 = .ok (.getfield 7, 3) := dk_180 0 7 (dk_at dksJ40_trimToSize_0 18 rfl rfl)
theorem dJ40_trimToSize_21 : decode cJ40_trimToSize 21 = .ok (.invokestatic 59, 3) := dk_184 0 59 (dk_at dksJ40_trimToSize_0 21 rfl rfl)
theorem dJ40_trimToSize_24 : decode cJ40_trimToSize 24 = .ok (.putfield 11, 3) := dk_181 0 11 (dk_at dksJ40_trimToSize_1 0 rfl rfl)
theorem dJ40_trimToSize_27 : decode cJ40_trimToSize 27 = .ok (.aload_n 0, 1) := dk_42 (dk_at dksJ40_trimToSize_1 3 rfl rfl)
theorem dJ40_trimToSize_28 : decode cJ40_trimToSize 28 = .ok (.invokevirtual 56, 3) := dk_182 0 56 (dk_at dksJ40_trimToSize_1 4 rfl rfl)
theorem dJ40_trimToSize_31 : decode cJ40_trimToSize 31 = .ok (.return_, 1) := dk_177 (dk_at dksJ40_trimToSize_1 7 rfl rfl)
abbrev cJ40_isEmpty : ByteArray := prog_60_method_33_code
def yJ40_isEmpty : MethodName := ⟨RJ40, "isEmpty", "()Z"⟩
def dkwJ40_isEmpty_0 : List UInt8 := [42, 180, 0, 7, 154, 0, 7, 4, 167, 0, 4, 3, 172]
abbrev dktJ40_isEmpty_0 : List UInt8 := dkwJ40_isEmpty_0 ++ []
theorem dksJ40_isEmpty_0 : cJ40_isEmpty.data.toList.drop 0 = dktJ40_isEmpty_0 := by decide +kernel
theorem dJ40_isEmpty_0 : decode cJ40_isEmpty 0 = .ok (.aload_n 0, 1) := dk_42 (dk_at dksJ40_isEmpty_0 0 rfl rfl)
theorem dJ40_isEmpty_1 : decode cJ40_isEmpty 1 = .ok (.getfield 7, 3) := dk_180 0 7 (dk_at dksJ40_isEmpty_0 1 rfl rfl)
theorem dJ40_isEmpty_4 : decode cJ40_isEmpty 4 = .ok (.ifCond .ne 7, 3) := dk_154 0 7 (dk_at dksJ40_isEmpty_0 4 rfl rfl)
theorem dJ40_isEmpty_7 : decode cJ40_isEmpty 7 = .ok (.iconst 1, 1) := dk_4 (dk_at dksJ40_isEmpty_0 7 rfl rfl)
theorem dJ40_isEmpty_8 : decode cJ40_isEmpty 8 = .ok (.goto 4, 3) := dk_167 0 4 (dk_at dksJ40_isEmpty_0 8 rfl rfl)
theorem dJ40_isEmpty_11 : decode cJ40_isEmpty 11 = .ok (.iconst 0, 1) := dk_3 (dk_at dksJ40_isEmpty_0 11 rfl rfl)
theorem dJ40_isEmpty_12 : decode cJ40_isEmpty 12 = .ok (.ireturn, 1) := dk_172 (dk_at dksJ40_isEmpty_0 12 rfl rfl)
abbrev cJ40_nextSetBit : ByteArray := prog_60_method_28_code
def yJ40_nextSetBit : MethodName := ⟨RJ40, "nextSetBit", "(I)I"⟩
def dkwJ40_nextSetBit_4 : List UInt8 := [28, 47, 66, 167, 255, 220]
abbrev dktJ40_nextSetBit_4 : List UInt8 := dkwJ40_nextSetBit_4 ++ []
def dkwJ40_nextSetBit_3 : List UInt8 := [104, 33, 184, 0, 182, 96, 172, 132, 2, 1, 28, 42, 180, 0, 7, 160, 0, 5, 2, 172, 42, 180, 0, 11]
abbrev dktJ40_nextSetBit_3 : List UInt8 := dkwJ40_nextSetBit_3 ++ dktJ40_nextSetBit_4
def dkwJ40_nextSetBit_2 : List UInt8 := [2, 172, 42, 180, 0, 11, 28, 47, 20, 0, 165, 27, 121, 127, 66, 33, 9, 148, 153, 0, 13, 28, 16, 64]
abbrev dktJ40_nextSetBit_2 : List UInt8 := dkwJ40_nextSetBit_2 ++ dktJ40_nextSetBit_3
def dkwJ40_nextSetBit_1 : List UInt8 := [182, 0, 45, 183, 0, 146, 191, 42, 182, 0, 56, 27, 184, 0, 52, 61, 28, 42, 180, 0, 7, 161, 0, 5]
abbrev dktJ40_nextSetBit_1 : List UInt8 := dkwJ40_nextSetBit_1 ++ dktJ40_nextSetBit_2
def dkwJ40_nextSetBit_0 : List UInt8 := [27, 156, 0, 30, 187, 0, 142, 89, 187, 0, 33, 89, 183, 0, 35, 18, 144, 182, 0, 38, 27, 182, 0, 42]
abbrev dktJ40_nextSetBit_0 : List UInt8 := dkwJ40_nextSetBit_0 ++ dktJ40_nextSetBit_1
theorem dksJ40_nextSetBit_0 : cJ40_nextSetBit.data.toList.drop 0 = dktJ40_nextSetBit_0 := by decide +kernel
theorem dksJ40_nextSetBit_1 : cJ40_nextSetBit.data.toList.drop 24 = dktJ40_nextSetBit_1 := dk_seg dksJ40_nextSetBit_0 24 rfl rfl
theorem dksJ40_nextSetBit_2 : cJ40_nextSetBit.data.toList.drop 48 = dktJ40_nextSetBit_2 := dk_seg dksJ40_nextSetBit_1 24 rfl rfl
theorem dksJ40_nextSetBit_3 : cJ40_nextSetBit.data.toList.drop 72 = dktJ40_nextSetBit_3 := dk_seg dksJ40_nextSetBit_2 24 rfl rfl
theorem dksJ40_nextSetBit_4 : cJ40_nextSetBit.data.toList.drop 96 = dktJ40_nextSetBit_4 := dk_seg dksJ40_nextSetBit_3 24 rfl rfl
theorem dJ40_nextSetBit_0 : decode cJ40_nextSetBit 0 = .ok (.iload_n 1, 1) := dk_27 (dk_at dksJ40_nextSetBit_0 0 rfl rfl)
theorem dJ40_nextSetBit_1 : decode cJ40_nextSetBit 1 = .ok (.ifCond .ge 30, 3) := dk_156 0 30 (dk_at dksJ40_nextSetBit_0 1 rfl rfl)
theorem dJ40_nextSetBit_4 : decode cJ40_nextSetBit 4 = .ok (.new 142, 3) := dk_187 0 142 (dk_at dksJ40_nextSetBit_0 4 rfl rfl)
theorem dJ40_nextSetBit_7 : decode cJ40_nextSetBit 7 = .ok (.dup, 1) := dk_89 (dk_at dksJ40_nextSetBit_0 7 rfl rfl)
theorem dJ40_nextSetBit_8 : decode cJ40_nextSetBit 8 = .ok (.new 33, 3) := dk_187 0 33 (dk_at dksJ40_nextSetBit_0 8 rfl rfl)
theorem dJ40_nextSetBit_11 : decode cJ40_nextSetBit 11 = .ok (.dup, 1) := dk_89 (dk_at dksJ40_nextSetBit_0 11 rfl rfl)
theorem dJ40_nextSetBit_12 : decode cJ40_nextSetBit 12 = .ok (.invokespecial 35, 3) := dk_183 0 35 (dk_at dksJ40_nextSetBit_0 12 rfl rfl)
theorem dJ40_nextSetBit_15 : decode cJ40_nextSetBit 15 = .ok (.ldc 144, 2) := dk_18 144 (dk_at dksJ40_nextSetBit_0 15 rfl rfl)
theorem dJ40_nextSetBit_17 : decode cJ40_nextSetBit 17 = .ok (.invokevirtual 38, 3) := dk_182 0 38 (dk_at dksJ40_nextSetBit_0 17 rfl rfl)
theorem dJ40_nextSetBit_20 : decode cJ40_nextSetBit 20 = .ok (.iload_n 1, 1) := dk_27 (dk_at dksJ40_nextSetBit_0 20 rfl rfl)
theorem dJ40_nextSetBit_21 : decode cJ40_nextSetBit 21 = .ok (.invokevirtual 42, 3) := dk_182 0 42 (dk_at dksJ40_nextSetBit_0 21 rfl rfl)
theorem dJ40_nextSetBit_24 : decode cJ40_nextSetBit 24 = .ok (.invokevirtual 45, 3) := dk_182 0 45 (dk_at dksJ40_nextSetBit_1 0 rfl rfl)
theorem dJ40_nextSetBit_27 : decode cJ40_nextSetBit 27 = .ok (.invokespecial 146, 3) := dk_183 0 146 (dk_at dksJ40_nextSetBit_1 3 rfl rfl)
theorem dJ40_nextSetBit_30 : decode cJ40_nextSetBit 30 = .ok (.athrow, 1) := dk_191 (dk_at dksJ40_nextSetBit_1 6 rfl rfl)
theorem dJ40_nextSetBit_31 : decode cJ40_nextSetBit 31 = .ok (.aload_n 0, 1) := dk_42 (dk_at dksJ40_nextSetBit_1 7 rfl rfl)
theorem dJ40_nextSetBit_32 : decode cJ40_nextSetBit 32 = .ok (.invokevirtual 56, 3) := dk_182 0 56 (dk_at dksJ40_nextSetBit_1 8 rfl rfl)
theorem dJ40_nextSetBit_35 : decode cJ40_nextSetBit 35 = .ok (.iload_n 1, 1) := dk_27 (dk_at dksJ40_nextSetBit_1 11 rfl rfl)
theorem dJ40_nextSetBit_36 : decode cJ40_nextSetBit 36 = .ok (.invokestatic 52, 3) := dk_184 0 52 (dk_at dksJ40_nextSetBit_1 12 rfl rfl)
theorem dJ40_nextSetBit_39 : decode cJ40_nextSetBit 39 = .ok (.istore_n 2, 1) := dk_61 (dk_at dksJ40_nextSetBit_1 15 rfl rfl)
theorem dJ40_nextSetBit_40 : decode cJ40_nextSetBit 40 = .ok (.iload_n 2, 1) := dk_28 (dk_at dksJ40_nextSetBit_1 16 rfl rfl)
theorem dJ40_nextSetBit_41 : decode cJ40_nextSetBit 41 = .ok (.aload_n 0, 1) := dk_42 (dk_at dksJ40_nextSetBit_1 17 rfl rfl)
theorem dJ40_nextSetBit_42 : decode cJ40_nextSetBit 42 = .ok (.getfield 7, 3) := dk_180 0 7 (dk_at dksJ40_nextSetBit_1 18 rfl rfl)
theorem dJ40_nextSetBit_45 : decode cJ40_nextSetBit 45 = .ok (.if_icmp .lt 5, 3) := dk_161 0 5 (dk_at dksJ40_nextSetBit_1 21 rfl rfl)
theorem dJ40_nextSetBit_48 : decode cJ40_nextSetBit 48 = .ok (.iconst (-1), 1) := dk_2 (dk_at dksJ40_nextSetBit_2 0 rfl rfl)
theorem dJ40_nextSetBit_49 : decode cJ40_nextSetBit 49 = .ok (.ireturn, 1) := dk_172 (dk_at dksJ40_nextSetBit_2 1 rfl rfl)
theorem dJ40_nextSetBit_50 : decode cJ40_nextSetBit 50 = .ok (.aload_n 0, 1) := dk_42 (dk_at dksJ40_nextSetBit_2 2 rfl rfl)
theorem dJ40_nextSetBit_51 : decode cJ40_nextSetBit 51 = .ok (.getfield 11, 3) := dk_180 0 11 (dk_at dksJ40_nextSetBit_2 3 rfl rfl)
theorem dJ40_nextSetBit_54 : decode cJ40_nextSetBit 54 = .ok (.iload_n 2, 1) := dk_28 (dk_at dksJ40_nextSetBit_2 6 rfl rfl)
theorem dJ40_nextSetBit_55 : decode cJ40_nextSetBit 55 = .ok (.laload, 1) := dk_47 (dk_at dksJ40_nextSetBit_2 7 rfl rfl)
theorem dJ40_nextSetBit_56 : decode cJ40_nextSetBit 56 = .ok (.ldc2_w 165, 3) := dk_20 0 165 (dk_at dksJ40_nextSetBit_2 8 rfl rfl)
theorem dJ40_nextSetBit_59 : decode cJ40_nextSetBit 59 = .ok (.iload_n 1, 1) := dk_27 (dk_at dksJ40_nextSetBit_2 11 rfl rfl)
theorem dJ40_nextSetBit_60 : decode cJ40_nextSetBit 60 = .ok (.lshl, 1) := dk_121 (dk_at dksJ40_nextSetBit_2 12 rfl rfl)
theorem dJ40_nextSetBit_61 : decode cJ40_nextSetBit 61 = .ok (.land, 1) := dk_127 (dk_at dksJ40_nextSetBit_2 13 rfl rfl)
theorem dJ40_nextSetBit_62 : decode cJ40_nextSetBit 62 = .ok (.lstore_n 3, 1) := dk_66 (dk_at dksJ40_nextSetBit_2 14 rfl rfl)
theorem dJ40_nextSetBit_63 : decode cJ40_nextSetBit 63 = .ok (.lload_n 3, 1) := dk_33 (dk_at dksJ40_nextSetBit_2 15 rfl rfl)
theorem dJ40_nextSetBit_64 : decode cJ40_nextSetBit 64 = .ok (.lconst 0, 1) := dk_9 (dk_at dksJ40_nextSetBit_2 16 rfl rfl)
theorem dJ40_nextSetBit_65 : decode cJ40_nextSetBit 65 = .ok (.lcmp, 1) := dk_148 (dk_at dksJ40_nextSetBit_2 17 rfl rfl)
theorem dJ40_nextSetBit_66 : decode cJ40_nextSetBit 66 = .ok (.ifCond .eq 13, 3) := dk_153 0 13 (dk_at dksJ40_nextSetBit_2 18 rfl rfl)
theorem dJ40_nextSetBit_69 : decode cJ40_nextSetBit 69 = .ok (.iload_n 2, 1) := dk_28 (dk_at dksJ40_nextSetBit_2 21 rfl rfl)
theorem dJ40_nextSetBit_70 : decode cJ40_nextSetBit 70 = .ok (.bipush 64, 2) := dk_16 64 (dk_at dksJ40_nextSetBit_2 22 rfl rfl)
theorem dJ40_nextSetBit_72 : decode cJ40_nextSetBit 72 = .ok (.imul, 1) := dk_104 (dk_at dksJ40_nextSetBit_3 0 rfl rfl)
theorem dJ40_nextSetBit_73 : decode cJ40_nextSetBit 73 = .ok (.lload_n 3, 1) := dk_33 (dk_at dksJ40_nextSetBit_3 1 rfl rfl)
theorem dJ40_nextSetBit_74 : decode cJ40_nextSetBit 74 = .ok (.invokestatic 182, 3) := dk_184 0 182 (dk_at dksJ40_nextSetBit_3 2 rfl rfl)
theorem dJ40_nextSetBit_77 : decode cJ40_nextSetBit 77 = .ok (.iadd, 1) := dk_96 (dk_at dksJ40_nextSetBit_3 5 rfl rfl)
theorem dJ40_nextSetBit_78 : decode cJ40_nextSetBit 78 = .ok (.ireturn, 1) := dk_172 (dk_at dksJ40_nextSetBit_3 6 rfl rfl)
theorem dJ40_nextSetBit_79 : decode cJ40_nextSetBit 79 = .ok (.iinc 2 1, 3) := dk_132 2 1 (dk_at dksJ40_nextSetBit_3 7 rfl rfl)
theorem dJ40_nextSetBit_82 : decode cJ40_nextSetBit 82 = .ok (.iload_n 2, 1) := dk_28 (dk_at dksJ40_nextSetBit_3 10 rfl rfl)
theorem dJ40_nextSetBit_83 : decode cJ40_nextSetBit 83 = .ok (.aload_n 0, 1) := dk_42 (dk_at dksJ40_nextSetBit_3 11 rfl rfl)
theorem dJ40_nextSetBit_84 : decode cJ40_nextSetBit 84 = .ok (.getfield 7, 3) := dk_180 0 7 (dk_at dksJ40_nextSetBit_3 12 rfl rfl)
theorem dJ40_nextSetBit_87 : decode cJ40_nextSetBit 87 = .ok (.if_icmp .ne 5, 3) := dk_160 0 5 (dk_at dksJ40_nextSetBit_3 15 rfl rfl)
theorem dJ40_nextSetBit_90 : decode cJ40_nextSetBit 90 = .ok (.iconst (-1), 1) := dk_2 (dk_at dksJ40_nextSetBit_3 18 rfl rfl)
theorem dJ40_nextSetBit_91 : decode cJ40_nextSetBit 91 = .ok (.ireturn, 1) := dk_172 (dk_at dksJ40_nextSetBit_3 19 rfl rfl)
theorem dJ40_nextSetBit_92 : decode cJ40_nextSetBit 92 = .ok (.aload_n 0, 1) := dk_42 (dk_at dksJ40_nextSetBit_3 20 rfl rfl)
theorem dJ40_nextSetBit_93 : decode cJ40_nextSetBit 93 = .ok (.getfield 11, 3) := dk_180 0 11 (dk_at dksJ40_nextSetBit_3 21 rfl rfl)
theorem dJ40_nextSetBit_96 : decode cJ40_nextSetBit 96 = .ok (.iload_n 2, 1) := dk_28 (dk_at dksJ40_nextSetBit_4 0 rfl rfl)
theorem dJ40_nextSetBit_97 : decode cJ40_nextSetBit 97 = .ok (.laload, 1) := dk_47 (dk_at dksJ40_nextSetBit_4 1 rfl rfl)
theorem dJ40_nextSetBit_98 : decode cJ40_nextSetBit 98 = .ok (.lstore_n 3, 1) := dk_66 (dk_at dksJ40_nextSetBit_4 2 rfl rfl)
theorem dJ40_nextSetBit_99 : decode cJ40_nextSetBit 99 = .ok (.goto (-36), 3) := dk_167 255 220 (dk_at dksJ40_nextSetBit_4 3 rfl rfl)
abbrev cJ40_clear : ByteArray := prog_60_method_23_code
def yJ40_clear : MethodName := ⟨RJ40, "clear", "(I)V"⟩
def dkwJ40_clear_2 : List UInt8 := [180, 0, 11, 28, 92, 47, 10, 27, 121, 20, 0, 165, 131, 127, 80, 42, 182, 0, 158, 42, 182, 0, 56, 177]
abbrev dktJ40_clear_2 : List UInt8 := dkwJ40_clear_2 ++ []
def dkwJ40_clear_1 : List UInt8 := [182, 0, 45, 183, 0, 146, 191, 27, 184, 0, 52, 61, 28, 42, 180, 0, 7, 161, 0, 4, 177, 42]
abbrev dktJ40_clear_1 : List UInt8 := dkwJ40_clear_1 ++ dktJ40_clear_2
def dkwJ40_clear_0 : List UInt8 := [27, 156, 0, 30, 187, 0, 142, 89, 187, 0, 33, 89, 183, 0, 35, 18, 153, 182, 0, 38, 27, 182, 0, 42]
abbrev dktJ40_clear_0 : List UInt8 := dkwJ40_clear_0 ++ dktJ40_clear_1
theorem dksJ40_clear_0 : cJ40_clear.data.toList.drop 0 = dktJ40_clear_0 := by decide +kernel
theorem dksJ40_clear_1 : cJ40_clear.data.toList.drop 24 = dktJ40_clear_1 := dk_seg dksJ40_clear_0 24 rfl rfl
theorem dksJ40_clear_2 : cJ40_clear.data.toList.drop 46 = dktJ40_clear_2 := dk_seg dksJ40_clear_1 22 rfl rfl
theorem dJ40_clear_0 : decode cJ40_clear 0 = .ok (.iload_n 1, 1) := dk_27 (dk_at dksJ40_clear_0 0 rfl rfl)
theorem dJ40_clear_1 : decode cJ40_clear 1 = .ok (.ifCond .ge 30, 3) := dk_156 0 30 (dk_at dksJ40_clear_0 1 rfl rfl)
theorem dJ40_clear_4 : decode cJ40_clear 4 = .ok (.new 142, 3) := dk_187 0 142 (dk_at dksJ40_clear_0 4 rfl rfl)
theorem dJ40_clear_7 : decode cJ40_clear 7 = .ok (.dup, 1) := dk_89 (dk_at dksJ40_clear_0 7 rfl rfl)
theorem dJ40_clear_8 : decode cJ40_clear 8 = .ok (.new 33, 3) := dk_187 0 33 (dk_at dksJ40_clear_0 8 rfl rfl)
theorem dJ40_clear_11 : decode cJ40_clear 11 = .ok (.dup, 1) := dk_89 (dk_at dksJ40_clear_0 11 rfl rfl)
theorem dJ40_clear_12 : decode cJ40_clear 12 = .ok (.invokespecial 35, 3) := dk_183 0 35 (dk_at dksJ40_clear_0 12 rfl rfl)
theorem dJ40_clear_15 : decode cJ40_clear 15 = .ok (.ldc 153, 2) := dk_18 153 (dk_at dksJ40_clear_0 15 rfl rfl)
theorem dJ40_clear_17 : decode cJ40_clear 17 = .ok (.invokevirtual 38, 3) := dk_182 0 38 (dk_at dksJ40_clear_0 17 rfl rfl)
theorem dJ40_clear_20 : decode cJ40_clear 20 = .ok (.iload_n 1, 1) := dk_27 (dk_at dksJ40_clear_0 20 rfl rfl)
theorem dJ40_clear_21 : decode cJ40_clear 21 = .ok (.invokevirtual 42, 3) := dk_182 0 42 (dk_at dksJ40_clear_0 21 rfl rfl)
theorem dJ40_clear_24 : decode cJ40_clear 24 = .ok (.invokevirtual 45, 3) := dk_182 0 45 (dk_at dksJ40_clear_1 0 rfl rfl)
theorem dJ40_clear_27 : decode cJ40_clear 27 = .ok (.invokespecial 146, 3) := dk_183 0 146 (dk_at dksJ40_clear_1 3 rfl rfl)
theorem dJ40_clear_30 : decode cJ40_clear 30 = .ok (.athrow, 1) := dk_191 (dk_at dksJ40_clear_1 6 rfl rfl)
theorem dJ40_clear_31 : decode cJ40_clear 31 = .ok (.iload_n 1, 1) := dk_27 (dk_at dksJ40_clear_1 7 rfl rfl)
theorem dJ40_clear_32 : decode cJ40_clear 32 = .ok (.invokestatic 52, 3) := dk_184 0 52 (dk_at dksJ40_clear_1 8 rfl rfl)
theorem dJ40_clear_35 : decode cJ40_clear 35 = .ok (.istore_n 2, 1) := dk_61 (dk_at dksJ40_clear_1 11 rfl rfl)
theorem dJ40_clear_36 : decode cJ40_clear 36 = .ok (.iload_n 2, 1) := dk_28 (dk_at dksJ40_clear_1 12 rfl rfl)
theorem dJ40_clear_37 : decode cJ40_clear 37 = .ok (.aload_n 0, 1) := dk_42 (dk_at dksJ40_clear_1 13 rfl rfl)
theorem dJ40_clear_38 : decode cJ40_clear 38 = .ok (.getfield 7, 3) := dk_180 0 7 (dk_at dksJ40_clear_1 14 rfl rfl)
theorem dJ40_clear_41 : decode cJ40_clear 41 = .ok (.if_icmp .lt 4, 3) := dk_161 0 4 (dk_at dksJ40_clear_1 17 rfl rfl)
theorem dJ40_clear_44 : decode cJ40_clear 44 = .ok (.return_, 1) := dk_177 (dk_at dksJ40_clear_1 20 rfl rfl)
theorem dJ40_clear_45 : decode cJ40_clear 45 = .ok (.aload_n 0, 1) := dk_42 (dk_at dksJ40_clear_1 21 rfl rfl)
theorem dJ40_clear_46 : decode cJ40_clear 46 = .ok (.getfield 11, 3) := dk_180 0 11 (dk_at dksJ40_clear_2 0 rfl rfl)
theorem dJ40_clear_49 : decode cJ40_clear 49 = .ok (.iload_n 2, 1) := dk_28 (dk_at dksJ40_clear_2 3 rfl rfl)
theorem dJ40_clear_50 : decode cJ40_clear 50 = .ok (.dup2, 1) := dk_92 (dk_at dksJ40_clear_2 4 rfl rfl)
theorem dJ40_clear_51 : decode cJ40_clear 51 = .ok (.laload, 1) := dk_47 (dk_at dksJ40_clear_2 5 rfl rfl)
theorem dJ40_clear_52 : decode cJ40_clear 52 = .ok (.lconst 1, 1) := dk_10 (dk_at dksJ40_clear_2 6 rfl rfl)
theorem dJ40_clear_53 : decode cJ40_clear 53 = .ok (.iload_n 1, 1) := dk_27 (dk_at dksJ40_clear_2 7 rfl rfl)
theorem dJ40_clear_54 : decode cJ40_clear 54 = .ok (.lshl, 1) := dk_121 (dk_at dksJ40_clear_2 8 rfl rfl)
theorem dJ40_clear_55 : decode cJ40_clear 55 = .ok (.ldc2_w 165, 3) := dk_20 0 165 (dk_at dksJ40_clear_2 9 rfl rfl)
theorem dJ40_clear_58 : decode cJ40_clear 58 = .ok (.lxor, 1) := dk_131 (dk_at dksJ40_clear_2 12 rfl rfl)
theorem dJ40_clear_59 : decode cJ40_clear 59 = .ok (.land, 1) := dk_127 (dk_at dksJ40_clear_2 13 rfl rfl)
theorem dJ40_clear_60 : decode cJ40_clear 60 = .ok (.lastore, 1) := dk_80 (dk_at dksJ40_clear_2 14 rfl rfl)
theorem dJ40_clear_61 : decode cJ40_clear 61 = .ok (.aload_n 0, 1) := dk_42 (dk_at dksJ40_clear_2 15 rfl rfl)
theorem dJ40_clear_62 : decode cJ40_clear 62 = .ok (.invokevirtual 158, 3) := dk_182 0 158 (dk_at dksJ40_clear_2 16 rfl rfl)
theorem dJ40_clear_65 : decode cJ40_clear 65 = .ok (.aload_n 0, 1) := dk_42 (dk_at dksJ40_clear_2 19 rfl rfl)
theorem dJ40_clear_66 : decode cJ40_clear 66 = .ok (.invokevirtual 56, 3) := dk_182 0 56 (dk_at dksJ40_clear_2 20 rfl rfl)
theorem dJ40_clear_69 : decode cJ40_clear 69 = .ok (.return_, 1) := dk_177 (dk_at dksJ40_clear_2 23 rfl rfl)
abbrev cJ40_recalculateWordsInUse : ByteArray := prog_60_method_3_code
def yJ40_recalculateWordsInUse : MethodName := ⟨RJ40, "recalculateWordsInUse", "()V"⟩
def dkwJ40_recalculateWordsInUse_1 : List UInt8 := [167, 0, 9, 132, 1, 255, 167, 255, 235, 42, 27, 4, 96, 181, 0, 7, 177]
abbrev dktJ40_recalculateWordsInUse_1 : List UInt8 := dkwJ40_recalculateWordsInUse_1 ++ []
def dkwJ40_recalculateWordsInUse_0 : List UInt8 := [42, 180, 0, 7, 4, 100, 60, 27, 155, 0, 23, 42, 180, 0, 11, 27, 47, 9, 148, 153, 0, 6]
abbrev dktJ40_recalculateWordsInUse_0 : List UInt8 := dkwJ40_recalculateWordsInUse_0 ++ dktJ40_recalculateWordsInUse_1
theorem dksJ40_recalculateWordsInUse_0 : cJ40_recalculateWordsInUse.data.toList.drop 0 = dktJ40_recalculateWordsInUse_0 := by decide +kernel
theorem dksJ40_recalculateWordsInUse_1 : cJ40_recalculateWordsInUse.data.toList.drop 22 = dktJ40_recalculateWordsInUse_1 := dk_seg dksJ40_recalculateWordsInUse_0 22 rfl rfl
theorem dJ40_recalculateWordsInUse_0 : decode cJ40_recalculateWordsInUse 0 = .ok (.aload_n 0, 1) := dk_42 (dk_at dksJ40_recalculateWordsInUse_0 0 rfl rfl)
theorem dJ40_recalculateWordsInUse_1 : decode cJ40_recalculateWordsInUse 1 = .ok (.getfield 7, 3) := dk_180 0 7 (dk_at dksJ40_recalculateWordsInUse_0 1 rfl rfl)
theorem dJ40_recalculateWordsInUse_4 : decode cJ40_recalculateWordsInUse 4 = .ok (.iconst 1, 1) := dk_4 (dk_at dksJ40_recalculateWordsInUse_0 4 rfl rfl)
theorem dJ40_recalculateWordsInUse_5 : decode cJ40_recalculateWordsInUse 5 = .ok (.isub, 1) := dk_100 (dk_at dksJ40_recalculateWordsInUse_0 5 rfl rfl)
theorem dJ40_recalculateWordsInUse_6 : decode cJ40_recalculateWordsInUse 6 = .ok (.istore_n 1, 1) := dk_60 (dk_at dksJ40_recalculateWordsInUse_0 6 rfl rfl)
theorem dJ40_recalculateWordsInUse_7 : decode cJ40_recalculateWordsInUse 7 = .ok (.iload_n 1, 1) := dk_27 (dk_at dksJ40_recalculateWordsInUse_0 7 rfl rfl)
theorem dJ40_recalculateWordsInUse_8 : decode cJ40_recalculateWordsInUse 8 = .ok (.ifCond .lt 23, 3) := dk_155 0 23 (dk_at dksJ40_recalculateWordsInUse_0 8 rfl rfl)
theorem dJ40_recalculateWordsInUse_11 : decode cJ40_recalculateWordsInUse 11 = .ok (.aload_n 0, 1) := dk_42 (dk_at dksJ40_recalculateWordsInUse_0 11 rfl rfl)
theorem dJ40_recalculateWordsInUse_12 : decode cJ40_recalculateWordsInUse 12 = .ok (.getfield 11, 3) := dk_180 0 11 (dk_at dksJ40_recalculateWordsInUse_0 12 rfl rfl)
theorem dJ40_recalculateWordsInUse_15 : decode cJ40_recalculateWordsInUse 15 = .ok (.iload_n 1, 1) := dk_27 (dk_at dksJ40_recalculateWordsInUse_0 15 rfl rfl)
theorem dJ40_recalculateWordsInUse_16 : decode cJ40_recalculateWordsInUse 16 = .ok (.laload, 1) := dk_47 (dk_at dksJ40_recalculateWordsInUse_0 16 rfl rfl)
theorem dJ40_recalculateWordsInUse_17 : decode cJ40_recalculateWordsInUse 17 = .ok (.lconst 0, 1) := dk_9 (dk_at dksJ40_recalculateWordsInUse_0 17 rfl rfl)
theorem dJ40_recalculateWordsInUse_18 : decode cJ40_recalculateWordsInUse 18 = .ok (.lcmp, 1) := dk_148 (dk_at dksJ40_recalculateWordsInUse_0 18 rfl rfl)
theorem dJ40_recalculateWordsInUse_19 : decode cJ40_recalculateWordsInUse 19 = .ok (.ifCond .eq 6, 3) := dk_153 0 6 (dk_at dksJ40_recalculateWordsInUse_0 19 rfl rfl)
theorem dJ40_recalculateWordsInUse_22 : decode cJ40_recalculateWordsInUse 22 = .ok (.goto 9, 3) := dk_167 0 9 (dk_at dksJ40_recalculateWordsInUse_1 0 rfl rfl)
theorem dJ40_recalculateWordsInUse_25 : decode cJ40_recalculateWordsInUse 25 = .ok (.iinc 1 (-1), 3) := dk_132 1 255 (dk_at dksJ40_recalculateWordsInUse_1 3 rfl rfl)
theorem dJ40_recalculateWordsInUse_28 : decode cJ40_recalculateWordsInUse 28 = .ok (.goto (-21), 3) := dk_167 255 235 (dk_at dksJ40_recalculateWordsInUse_1 6 rfl rfl)
theorem dJ40_recalculateWordsInUse_31 : decode cJ40_recalculateWordsInUse 31 = .ok (.aload_n 0, 1) := dk_42 (dk_at dksJ40_recalculateWordsInUse_1 9 rfl rfl)
theorem dJ40_recalculateWordsInUse_32 : decode cJ40_recalculateWordsInUse 32 = .ok (.iload_n 1, 1) := dk_27 (dk_at dksJ40_recalculateWordsInUse_1 10 rfl rfl)
theorem dJ40_recalculateWordsInUse_33 : decode cJ40_recalculateWordsInUse 33 = .ok (.iconst 1, 1) := dk_4 (dk_at dksJ40_recalculateWordsInUse_1 11 rfl rfl)
theorem dJ40_recalculateWordsInUse_34 : decode cJ40_recalculateWordsInUse 34 = .ok (.iadd, 1) := dk_96 (dk_at dksJ40_recalculateWordsInUse_1 12 rfl rfl)
theorem dJ40_recalculateWordsInUse_35 : decode cJ40_recalculateWordsInUse 35 = .ok (.putfield 7, 3) := dk_181 0 7 (dk_at dksJ40_recalculateWordsInUse_1 13 rfl rfl)
theorem dJ40_recalculateWordsInUse_38 : decode cJ40_recalculateWordsInUse 38 = .ok (.return_, 1) := dk_177 (dk_at dksJ40_recalculateWordsInUse_1 16 rfl rfl)
abbrev cJ40_or : ByteArray := prog_60_method_37_code
def yJ40_or : MethodName := ⟨RJ40, "or", "(Ljava/util/BitSet;)V"⟩
def dkwJ40_or_4 : List UInt8 := [180, 0, 7, 28, 100, 184, 0, 199, 42, 182, 0, 56, 177]
abbrev dktJ40_or_4 : List UInt8 := dkwJ40_or_4 ++ []
def dkwJ40_or_3 : List UInt8 := [167, 255, 233, 28, 43, 180, 0, 7, 162, 0, 22, 43, 180, 0, 11, 28, 42, 180, 0, 11, 28, 42]
abbrev dktJ40_or_3 : List UInt8 := dkwJ40_or_3 ++ dktJ40_or_4
def dkwJ40_or_2 : List UInt8 := [29, 28, 162, 0, 24, 42, 180, 0, 11, 29, 92, 47, 43, 180, 0, 11, 29, 47, 129, 80, 132, 3, 1]
abbrev dktJ40_or_2 : List UInt8 := dkwJ40_or_2 ++ dktJ40_or_3
def dkwJ40_or_1 : List UInt8 := [180, 0, 7, 162, 0, 19, 42, 43, 180, 0, 7, 182, 0, 139, 42, 43, 180, 0, 7, 181, 0, 7, 3, 62]
abbrev dktJ40_or_1 : List UInt8 := dkwJ40_or_1 ++ dktJ40_or_2
def dkwJ40_or_0 : List UInt8 := [42, 43, 166, 0, 4, 177, 42, 180, 0, 7, 43, 180, 0, 7, 184, 0, 193, 61, 42, 180, 0, 7, 43]
abbrev dktJ40_or_0 : List UInt8 := dkwJ40_or_0 ++ dktJ40_or_1
theorem dksJ40_or_0 : cJ40_or.data.toList.drop 0 = dktJ40_or_0 := by decide +kernel
theorem dksJ40_or_1 : cJ40_or.data.toList.drop 23 = dktJ40_or_1 := dk_seg dksJ40_or_0 23 rfl rfl
theorem dksJ40_or_2 : cJ40_or.data.toList.drop 47 = dktJ40_or_2 := dk_seg dksJ40_or_1 24 rfl rfl
theorem dksJ40_or_3 : cJ40_or.data.toList.drop 70 = dktJ40_or_3 := dk_seg dksJ40_or_2 23 rfl rfl
theorem dksJ40_or_4 : cJ40_or.data.toList.drop 92 = dktJ40_or_4 := dk_seg dksJ40_or_3 22 rfl rfl
theorem dJ40_or_0 : decode cJ40_or 0 = .ok (.aload_n 0, 1) := dk_42 (dk_at dksJ40_or_0 0 rfl rfl)
theorem dJ40_or_1 : decode cJ40_or 1 = .ok (.aload_n 1, 1) := dk_43 (dk_at dksJ40_or_0 1 rfl rfl)
theorem dJ40_or_2 : decode cJ40_or 2 = .ok (.if_acmp .ne 4, 3) := dk_166 0 4 (dk_at dksJ40_or_0 2 rfl rfl)
theorem dJ40_or_5 : decode cJ40_or 5 = .ok (.return_, 1) := dk_177 (dk_at dksJ40_or_0 5 rfl rfl)
theorem dJ40_or_6 : decode cJ40_or 6 = .ok (.aload_n 0, 1) := dk_42 (dk_at dksJ40_or_0 6 rfl rfl)
theorem dJ40_or_7 : decode cJ40_or 7 = .ok (.getfield 7, 3) := dk_180 0 7 (dk_at dksJ40_or_0 7 rfl rfl)
theorem dJ40_or_10 : decode cJ40_or 10 = .ok (.aload_n 1, 1) := dk_43 (dk_at dksJ40_or_0 10 rfl rfl)
theorem dJ40_or_11 : decode cJ40_or 11 = .ok (.getfield 7, 3) := dk_180 0 7 (dk_at dksJ40_or_0 11 rfl rfl)
theorem dJ40_or_14 : decode cJ40_or 14 = .ok (.invokestatic 193, 3) := dk_184 0 193 (dk_at dksJ40_or_0 14 rfl rfl)
theorem dJ40_or_17 : decode cJ40_or 17 = .ok (.istore_n 2, 1) := dk_61 (dk_at dksJ40_or_0 17 rfl rfl)
theorem dJ40_or_18 : decode cJ40_or 18 = .ok (.aload_n 0, 1) := dk_42 (dk_at dksJ40_or_0 18 rfl rfl)
theorem dJ40_or_19 : decode cJ40_or 19 = .ok (.getfield 7, 3) := dk_180 0 7 (dk_at dksJ40_or_0 19 rfl rfl)
theorem dJ40_or_22 : decode cJ40_or 22 = .ok (.aload_n 1, 1) := dk_43 (dk_at dksJ40_or_0 22 rfl rfl)
theorem dJ40_or_23 : decode cJ40_or 23 = .ok (.getfield 7, 3) := dk_180 0 7 (dk_at dksJ40_or_1 0 rfl rfl)
theorem dJ40_or_26 : decode cJ40_or 26 = .ok (.if_icmp .ge 19, 3) := dk_162 0 19 (dk_at dksJ40_or_1 3 rfl rfl)
theorem dJ40_or_29 : decode cJ40_or 29 = .ok (.aload_n 0, 1) := dk_42 (dk_at dksJ40_or_1 6 rfl rfl)
theorem dJ40_or_30 : decode cJ40_or 30 = .ok (.aload_n 1, 1) := dk_43 (dk_at dksJ40_or_1 7 rfl rfl)
theorem dJ40_or_31 : decode cJ40_or 31 = .ok (.getfield 7, 3) := dk_180 0 7 (dk_at dksJ40_or_1 8 rfl rfl)
theorem dJ40_or_34 : decode cJ40_or 34 = .ok (.invokevirtual 139, 3) := dk_182 0 139 (dk_at dksJ40_or_1 11 rfl rfl)
theorem dJ40_or_37 : decode cJ40_or 37 = .ok (.aload_n 0, 1) := dk_42 (dk_at dksJ40_or_1 14 rfl rfl)
theorem dJ40_or_38 : decode cJ40_or 38 = .ok (.aload_n 1, 1) := dk_43 (dk_at dksJ40_or_1 15 rfl rfl)
theorem dJ40_or_39 : decode cJ40_or 39 = .ok (.getfield 7, 3) := dk_180 0 7 (dk_at dksJ40_or_1 16 rfl rfl)
theorem dJ40_or_42 : decode cJ40_or 42 = .ok (.putfield 7, 3) := dk_181 0 7 (dk_at dksJ40_or_1 19 rfl rfl)
theorem dJ40_or_45 : decode cJ40_or 45 = .ok (.iconst 0, 1) := dk_3 (dk_at dksJ40_or_1 22 rfl rfl)
theorem dJ40_or_46 : decode cJ40_or 46 = .ok (.istore_n 3, 1) := dk_62 (dk_at dksJ40_or_1 23 rfl rfl)
theorem dJ40_or_47 : decode cJ40_or 47 = .ok (.iload_n 3, 1) := dk_29 (dk_at dksJ40_or_2 0 rfl rfl)
theorem dJ40_or_48 : decode cJ40_or 48 = .ok (.iload_n 2, 1) := dk_28 (dk_at dksJ40_or_2 1 rfl rfl)
theorem dJ40_or_49 : decode cJ40_or 49 = .ok (.if_icmp .ge 24, 3) := dk_162 0 24 (dk_at dksJ40_or_2 2 rfl rfl)
theorem dJ40_or_52 : decode cJ40_or 52 = .ok (.aload_n 0, 1) := dk_42 (dk_at dksJ40_or_2 5 rfl rfl)
theorem dJ40_or_53 : decode cJ40_or 53 = .ok (.getfield 11, 3) := dk_180 0 11 (dk_at dksJ40_or_2 6 rfl rfl)
theorem dJ40_or_56 : decode cJ40_or 56 = .ok (.iload_n 3, 1) := dk_29 (dk_at dksJ40_or_2 9 rfl rfl)
theorem dJ40_or_57 : decode cJ40_or 57 = .ok (.dup2, 1) := dk_92 (dk_at dksJ40_or_2 10 rfl rfl)
theorem dJ40_or_58 : decode cJ40_or 58 = .ok (.laload, 1) := dk_47 (dk_at dksJ40_or_2 11 rfl rfl)
theorem dJ40_or_59 : decode cJ40_or 59 = .ok (.aload_n 1, 1) := dk_43 (dk_at dksJ40_or_2 12 rfl rfl)
theorem dJ40_or_60 : decode cJ40_or 60 = .ok (.getfield 11, 3) := dk_180 0 11 (dk_at dksJ40_or_2 13 rfl rfl)
theorem dJ40_or_63 : decode cJ40_or 63 = .ok (.iload_n 3, 1) := dk_29 (dk_at dksJ40_or_2 16 rfl rfl)
theorem dJ40_or_64 : decode cJ40_or 64 = .ok (.laload, 1) := dk_47 (dk_at dksJ40_or_2 17 rfl rfl)
theorem dJ40_or_65 : decode cJ40_or 65 = .ok (.lor, 1) := dk_129 (dk_at dksJ40_or_2 18 rfl rfl)
theorem dJ40_or_66 : decode cJ40_or 66 = .ok (.lastore, 1) := dk_80 (dk_at dksJ40_or_2 19 rfl rfl)
theorem dJ40_or_67 : decode cJ40_or 67 = .ok (.iinc 3 1, 3) := dk_132 3 1 (dk_at dksJ40_or_2 20 rfl rfl)
theorem dJ40_or_70 : decode cJ40_or 70 = .ok (.goto (-23), 3) := dk_167 255 233 (dk_at dksJ40_or_3 0 rfl rfl)
theorem dJ40_or_73 : decode cJ40_or 73 = .ok (.iload_n 2, 1) := dk_28 (dk_at dksJ40_or_3 3 rfl rfl)
theorem dJ40_or_74 : decode cJ40_or 74 = .ok (.aload_n 1, 1) := dk_43 (dk_at dksJ40_or_3 4 rfl rfl)
theorem dJ40_or_75 : decode cJ40_or 75 = .ok (.getfield 7, 3) := dk_180 0 7 (dk_at dksJ40_or_3 5 rfl rfl)
theorem dJ40_or_78 : decode cJ40_or 78 = .ok (.if_icmp .ge 22, 3) := dk_162 0 22 (dk_at dksJ40_or_3 8 rfl rfl)
theorem dJ40_or_81 : decode cJ40_or 81 = .ok (.aload_n 1, 1) := dk_43 (dk_at dksJ40_or_3 11 rfl rfl)
theorem dJ40_or_82 : decode cJ40_or 82 = .ok (.getfield 11, 3) := dk_180 0 11 (dk_at dksJ40_or_3 12 rfl rfl)
theorem dJ40_or_85 : decode cJ40_or 85 = .ok (.iload_n 2, 1) := dk_28 (dk_at dksJ40_or_3 15 rfl rfl)
theorem dJ40_or_86 : decode cJ40_or 86 = .ok (.aload_n 0, 1) := dk_42 (dk_at dksJ40_or_3 16 rfl rfl)
theorem dJ40_or_87 : decode cJ40_or 87 = .ok (.getfield 11, 3) := dk_180 0 11 (dk_at dksJ40_or_3 17 rfl rfl)
theorem dJ40_or_90 : decode cJ40_or 90 = .ok (.iload_n 2, 1) := dk_28 (dk_at dksJ40_or_3 20 rfl rfl)
theorem dJ40_or_91 : decode cJ40_or 91 = .ok (.aload_n 0, 1) := dk_42 (dk_at dksJ40_or_3 21 rfl rfl)
theorem dJ40_or_92 : decode cJ40_or 92 = .ok (.getfield 7, 3) := dk_180 0 7 (dk_at dksJ40_or_4 0 rfl rfl)
theorem dJ40_or_95 : decode cJ40_or 95 = .ok (.iload_n 2, 1) := dk_28 (dk_at dksJ40_or_4 3 rfl rfl)
theorem dJ40_or_96 : decode cJ40_or 96 = .ok (.isub, 1) := dk_100 (dk_at dksJ40_or_4 4 rfl rfl)
theorem dJ40_or_97 : decode cJ40_or 97 = .ok (.invokestatic 199, 3) := dk_184 0 199 (dk_at dksJ40_or_4 5 rfl rfl)
theorem dJ40_or_100 : decode cJ40_or 100 = .ok (.aload_n 0, 1) := dk_42 (dk_at dksJ40_or_4 8 rfl rfl)
theorem dJ40_or_101 : decode cJ40_or 101 = .ok (.invokevirtual 56, 3) := dk_182 0 56 (dk_at dksJ40_or_4 9 rfl rfl)
theorem dJ40_or_104 : decode cJ40_or 104 = .ok (.return_, 1) := dk_177 (dk_at dksJ40_or_4 12 rfl rfl)
abbrev cJ40_andNot : ByteArray := prog_60_method_39_code
def yJ40_andNot : MethodName := ⟨RJ40, "andNot", "(Ljava/util/BitSet;)V"⟩
def dkwJ40_andNot_2 : List UInt8 := [182, 0, 56, 177]
abbrev dktJ40_andNot_2 : List UInt8 := dkwJ40_andNot_2 ++ []
def dkwJ40_andNot_1 : List UInt8 := [47, 43, 180, 0, 11, 28, 47, 20, 0, 165, 131, 127, 80, 132, 2, 255, 167, 255, 230, 42, 182, 0, 158, 42]
abbrev dktJ40_andNot_1 : List UInt8 := dkwJ40_andNot_1 ++ dktJ40_andNot_2
def dkwJ40_andNot_0 : List UInt8 := [42, 180, 0, 7, 43, 180, 0, 7, 184, 0, 193, 4, 100, 61, 28, 155, 0, 28, 42, 180, 0, 11, 28, 92]
abbrev dktJ40_andNot_0 : List UInt8 := dkwJ40_andNot_0 ++ dktJ40_andNot_1
theorem dksJ40_andNot_0 : cJ40_andNot.data.toList.drop 0 = dktJ40_andNot_0 := by decide +kernel
theorem dksJ40_andNot_1 : cJ40_andNot.data.toList.drop 24 = dktJ40_andNot_1 := dk_seg dksJ40_andNot_0 24 rfl rfl
theorem dksJ40_andNot_2 : cJ40_andNot.data.toList.drop 48 = dktJ40_andNot_2 := dk_seg dksJ40_andNot_1 24 rfl rfl
theorem dJ40_andNot_0 : decode cJ40_andNot 0 = .ok (.aload_n 0, 1) := dk_42 (dk_at dksJ40_andNot_0 0 rfl rfl)
theorem dJ40_andNot_1 : decode cJ40_andNot 1 = .ok (.getfield 7, 3) := dk_180 0 7 (dk_at dksJ40_andNot_0 1 rfl rfl)
theorem dJ40_andNot_4 : decode cJ40_andNot 4 = .ok (.aload_n 1, 1) := dk_43 (dk_at dksJ40_andNot_0 4 rfl rfl)
theorem dJ40_andNot_5 : decode cJ40_andNot 5 = .ok (.getfield 7, 3) := dk_180 0 7 (dk_at dksJ40_andNot_0 5 rfl rfl)
theorem dJ40_andNot_8 : decode cJ40_andNot 8 = .ok (.invokestatic 193, 3) := dk_184 0 193 (dk_at dksJ40_andNot_0 8 rfl rfl)
theorem dJ40_andNot_11 : decode cJ40_andNot 11 = .ok (.iconst 1, 1) := dk_4 (dk_at dksJ40_andNot_0 11 rfl rfl)
theorem dJ40_andNot_12 : decode cJ40_andNot 12 = .ok (.isub, 1) := dk_100 (dk_at dksJ40_andNot_0 12 rfl rfl)
theorem dJ40_andNot_13 : decode cJ40_andNot 13 = .ok (.istore_n 2, 1) := dk_61 (dk_at dksJ40_andNot_0 13 rfl rfl)
theorem dJ40_andNot_14 : decode cJ40_andNot 14 = .ok (.iload_n 2, 1) := dk_28 (dk_at dksJ40_andNot_0 14 rfl rfl)
theorem dJ40_andNot_15 : decode cJ40_andNot 15 = .ok (.ifCond .lt 28, 3) := dk_155 0 28 (dk_at dksJ40_andNot_0 15 rfl rfl)
theorem dJ40_andNot_18 : decode cJ40_andNot 18 = .ok (.aload_n 0, 1) := dk_42 (dk_at dksJ40_andNot_0 18 rfl rfl)
theorem dJ40_andNot_19 : decode cJ40_andNot 19 = .ok (.getfield 11, 3) := dk_180 0 11 (dk_at dksJ40_andNot_0 19 rfl rfl)
theorem dJ40_andNot_22 : decode cJ40_andNot 22 = .ok (.iload_n 2, 1) := dk_28 (dk_at dksJ40_andNot_0 22 rfl rfl)
theorem dJ40_andNot_23 : decode cJ40_andNot 23 = .ok (.dup2, 1) := dk_92 (dk_at dksJ40_andNot_0 23 rfl rfl)
theorem dJ40_andNot_24 : decode cJ40_andNot 24 = .ok (.laload, 1) := dk_47 (dk_at dksJ40_andNot_1 0 rfl rfl)
theorem dJ40_andNot_25 : decode cJ40_andNot 25 = .ok (.aload_n 1, 1) := dk_43 (dk_at dksJ40_andNot_1 1 rfl rfl)
theorem dJ40_andNot_26 : decode cJ40_andNot 26 = .ok (.getfield 11, 3) := dk_180 0 11 (dk_at dksJ40_andNot_1 2 rfl rfl)
theorem dJ40_andNot_29 : decode cJ40_andNot 29 = .ok (.iload_n 2, 1) := dk_28 (dk_at dksJ40_andNot_1 5 rfl rfl)
theorem dJ40_andNot_30 : decode cJ40_andNot 30 = .ok (.laload, 1) := dk_47 (dk_at dksJ40_andNot_1 6 rfl rfl)
theorem dJ40_andNot_31 : decode cJ40_andNot 31 = .ok (.ldc2_w 165, 3) := dk_20 0 165 (dk_at dksJ40_andNot_1 7 rfl rfl)
theorem dJ40_andNot_34 : decode cJ40_andNot 34 = .ok (.lxor, 1) := dk_131 (dk_at dksJ40_andNot_1 10 rfl rfl)
theorem dJ40_andNot_35 : decode cJ40_andNot 35 = .ok (.land, 1) := dk_127 (dk_at dksJ40_andNot_1 11 rfl rfl)
theorem dJ40_andNot_36 : decode cJ40_andNot 36 = .ok (.lastore, 1) := dk_80 (dk_at dksJ40_andNot_1 12 rfl rfl)
theorem dJ40_andNot_37 : decode cJ40_andNot 37 = .ok (.iinc 2 (-1), 3) := dk_132 2 255 (dk_at dksJ40_andNot_1 13 rfl rfl)
theorem dJ40_andNot_40 : decode cJ40_andNot 40 = .ok (.goto (-26), 3) := dk_167 255 230 (dk_at dksJ40_andNot_1 16 rfl rfl)
theorem dJ40_andNot_43 : decode cJ40_andNot 43 = .ok (.aload_n 0, 1) := dk_42 (dk_at dksJ40_andNot_1 19 rfl rfl)
theorem dJ40_andNot_44 : decode cJ40_andNot 44 = .ok (.invokevirtual 158, 3) := dk_182 0 158 (dk_at dksJ40_andNot_1 20 rfl rfl)
theorem dJ40_andNot_47 : decode cJ40_andNot 47 = .ok (.aload_n 0, 1) := dk_42 (dk_at dksJ40_andNot_1 23 rfl rfl)
theorem dJ40_andNot_48 : decode cJ40_andNot 48 = .ok (.invokevirtual 56, 3) := dk_182 0 56 (dk_at dksJ40_andNot_2 0 rfl rfl)
theorem dJ40_andNot_51 : decode cJ40_andNot 51 = .ok (.return_, 1) := dk_177 (dk_at dksJ40_andNot_2 3 rfl rfl)
abbrev cJ40_get : ByteArray := prog_60_method_26_code
def yJ40_get : MethodName := ⟨RJ40, "get", "(I)Z"⟩
def dkwJ40_get_2 : List UInt8 := [42, 180, 0, 11, 28, 47, 10, 27, 121, 127, 9, 148, 153, 0, 7, 4, 167, 0, 4, 3, 172]
abbrev dktJ40_get_2 : List UInt8 := dkwJ40_get_2 ++ []
def dkwJ40_get_1 : List UInt8 := [182, 0, 45, 183, 0, 146, 191, 42, 182, 0, 56, 27, 184, 0, 52, 61, 28, 42, 180, 0, 7, 162, 0, 22]
abbrev dktJ40_get_1 : List UInt8 := dkwJ40_get_1 ++ dktJ40_get_2
def dkwJ40_get_0 : List UInt8 := [27, 156, 0, 30, 187, 0, 142, 89, 187, 0, 33, 89, 183, 0, 35, 18, 153, 182, 0, 38, 27, 182, 0, 42]
abbrev dktJ40_get_0 : List UInt8 := dkwJ40_get_0 ++ dktJ40_get_1
theorem dksJ40_get_0 : cJ40_get.data.toList.drop 0 = dktJ40_get_0 := by decide +kernel
theorem dksJ40_get_1 : cJ40_get.data.toList.drop 24 = dktJ40_get_1 := dk_seg dksJ40_get_0 24 rfl rfl
theorem dksJ40_get_2 : cJ40_get.data.toList.drop 48 = dktJ40_get_2 := dk_seg dksJ40_get_1 24 rfl rfl
theorem dJ40_get_0 : decode cJ40_get 0 = .ok (.iload_n 1, 1) := dk_27 (dk_at dksJ40_get_0 0 rfl rfl)
theorem dJ40_get_1 : decode cJ40_get 1 = .ok (.ifCond .ge 30, 3) := dk_156 0 30 (dk_at dksJ40_get_0 1 rfl rfl)
theorem dJ40_get_4 : decode cJ40_get 4 = .ok (.new 142, 3) := dk_187 0 142 (dk_at dksJ40_get_0 4 rfl rfl)
theorem dJ40_get_7 : decode cJ40_get 7 = .ok (.dup, 1) := dk_89 (dk_at dksJ40_get_0 7 rfl rfl)
theorem dJ40_get_8 : decode cJ40_get 8 = .ok (.new 33, 3) := dk_187 0 33 (dk_at dksJ40_get_0 8 rfl rfl)
theorem dJ40_get_11 : decode cJ40_get 11 = .ok (.dup, 1) := dk_89 (dk_at dksJ40_get_0 11 rfl rfl)
theorem dJ40_get_12 : decode cJ40_get 12 = .ok (.invokespecial 35, 3) := dk_183 0 35 (dk_at dksJ40_get_0 12 rfl rfl)
theorem dJ40_get_15 : decode cJ40_get 15 = .ok (.ldc 153, 2) := dk_18 153 (dk_at dksJ40_get_0 15 rfl rfl)
theorem dJ40_get_17 : decode cJ40_get 17 = .ok (.invokevirtual 38, 3) := dk_182 0 38 (dk_at dksJ40_get_0 17 rfl rfl)
theorem dJ40_get_20 : decode cJ40_get 20 = .ok (.iload_n 1, 1) := dk_27 (dk_at dksJ40_get_0 20 rfl rfl)
theorem dJ40_get_21 : decode cJ40_get 21 = .ok (.invokevirtual 42, 3) := dk_182 0 42 (dk_at dksJ40_get_0 21 rfl rfl)
theorem dJ40_get_24 : decode cJ40_get 24 = .ok (.invokevirtual 45, 3) := dk_182 0 45 (dk_at dksJ40_get_1 0 rfl rfl)
theorem dJ40_get_27 : decode cJ40_get 27 = .ok (.invokespecial 146, 3) := dk_183 0 146 (dk_at dksJ40_get_1 3 rfl rfl)
theorem dJ40_get_30 : decode cJ40_get 30 = .ok (.athrow, 1) := dk_191 (dk_at dksJ40_get_1 6 rfl rfl)
theorem dJ40_get_31 : decode cJ40_get 31 = .ok (.aload_n 0, 1) := dk_42 (dk_at dksJ40_get_1 7 rfl rfl)
theorem dJ40_get_32 : decode cJ40_get 32 = .ok (.invokevirtual 56, 3) := dk_182 0 56 (dk_at dksJ40_get_1 8 rfl rfl)
theorem dJ40_get_35 : decode cJ40_get 35 = .ok (.iload_n 1, 1) := dk_27 (dk_at dksJ40_get_1 11 rfl rfl)
theorem dJ40_get_36 : decode cJ40_get 36 = .ok (.invokestatic 52, 3) := dk_184 0 52 (dk_at dksJ40_get_1 12 rfl rfl)
theorem dJ40_get_39 : decode cJ40_get 39 = .ok (.istore_n 2, 1) := dk_61 (dk_at dksJ40_get_1 15 rfl rfl)
theorem dJ40_get_40 : decode cJ40_get 40 = .ok (.iload_n 2, 1) := dk_28 (dk_at dksJ40_get_1 16 rfl rfl)
theorem dJ40_get_41 : decode cJ40_get 41 = .ok (.aload_n 0, 1) := dk_42 (dk_at dksJ40_get_1 17 rfl rfl)
theorem dJ40_get_42 : decode cJ40_get 42 = .ok (.getfield 7, 3) := dk_180 0 7 (dk_at dksJ40_get_1 18 rfl rfl)
theorem dJ40_get_45 : decode cJ40_get 45 = .ok (.if_icmp .ge 22, 3) := dk_162 0 22 (dk_at dksJ40_get_1 21 rfl rfl)
theorem dJ40_get_48 : decode cJ40_get 48 = .ok (.aload_n 0, 1) := dk_42 (dk_at dksJ40_get_2 0 rfl rfl)
theorem dJ40_get_49 : decode cJ40_get 49 = .ok (.getfield 11, 3) := dk_180 0 11 (dk_at dksJ40_get_2 1 rfl rfl)
theorem dJ40_get_52 : decode cJ40_get 52 = .ok (.iload_n 2, 1) := dk_28 (dk_at dksJ40_get_2 4 rfl rfl)
theorem dJ40_get_53 : decode cJ40_get 53 = .ok (.laload, 1) := dk_47 (dk_at dksJ40_get_2 5 rfl rfl)
theorem dJ40_get_54 : decode cJ40_get 54 = .ok (.lconst 1, 1) := dk_10 (dk_at dksJ40_get_2 6 rfl rfl)
theorem dJ40_get_55 : decode cJ40_get 55 = .ok (.iload_n 1, 1) := dk_27 (dk_at dksJ40_get_2 7 rfl rfl)
theorem dJ40_get_56 : decode cJ40_get 56 = .ok (.lshl, 1) := dk_121 (dk_at dksJ40_get_2 8 rfl rfl)
theorem dJ40_get_57 : decode cJ40_get 57 = .ok (.land, 1) := dk_127 (dk_at dksJ40_get_2 9 rfl rfl)
theorem dJ40_get_58 : decode cJ40_get 58 = .ok (.lconst 0, 1) := dk_9 (dk_at dksJ40_get_2 10 rfl rfl)
theorem dJ40_get_59 : decode cJ40_get 59 = .ok (.lcmp, 1) := dk_148 (dk_at dksJ40_get_2 11 rfl rfl)
theorem dJ40_get_60 : decode cJ40_get 60 = .ok (.ifCond .eq 7, 3) := dk_153 0 7 (dk_at dksJ40_get_2 12 rfl rfl)
theorem dJ40_get_63 : decode cJ40_get 63 = .ok (.iconst 1, 1) := dk_4 (dk_at dksJ40_get_2 15 rfl rfl)
theorem dJ40_get_64 : decode cJ40_get 64 = .ok (.goto 4, 3) := dk_167 0 4 (dk_at dksJ40_get_2 16 rfl rfl)
theorem dJ40_get_67 : decode cJ40_get 67 = .ok (.iconst 0, 1) := dk_3 (dk_at dksJ40_get_2 19 rfl rfl)
theorem dJ40_get_68 : decode cJ40_get 68 = .ok (.ireturn, 1) := dk_172 (dk_at dksJ40_get_2 20 rfl rfl)
theorem q179 : (Jvm.Cond.initialized "java/util/BitSet") ∈ lw_all := lw_g (lw_at lw_m1 57 rfl) rfl
theorem q368 : (Jvm.Cond.selects "java/util/BitSet" ({ cls := "java/lang/Object", name := "getClass", desc := "()Ljava/lang/Class;" } : Jvm.MethodName) ({ cls := "java/lang/Object", name := "getClass", desc := "()Ljava/lang/Class;" } : Jvm.MethodName)) ∈ lw_all := lw_g (lw_at lw_m2 6 rfl) rfl
theorem q624 : (Jvm.Cond.instanceMethod ({ cls := "java/util/BitSet", name := "cardinality", desc := "()I" } : Jvm.MethodName)) ∈ lw_all := lw_g (lw_at lw_m3 22 rfl) rfl
theorem q625 : (Jvm.Cond.selects "java/util/BitSet" ({ cls := "java/util/BitSet", name := "cardinality", desc := "()I" } : Jvm.MethodName) ({ cls := "java/util/BitSet", name := "cardinality", desc := "()I" } : Jvm.MethodName)) ∈ lw_all := lw_g (lw_at lw_m3 23 rfl) rfl
theorem q626 : (Jvm.Cond.code ({ cls := "java/util/BitSet", name := "cardinality", desc := "()I" } : Jvm.MethodName) prog_60_method_35_code (3 : Nat) (Option.some Jvm.ClassFile.FieldType.int)) ∈ lw_all := lw_g (lw_at lw_m3 24 rfl) rfl
theorem q627 : (Jvm.Cond.methodLink "java/util/BitSet" (196 : Nat) ({ cls := "java/lang/Long", name := "bitCount", desc := "(J)I" } : Jvm.MethodName)) ∈ lw_all := lw_g (lw_at lw_m3 25 rfl) rfl
theorem q1572 : (Jvm.Cond.instantiable "java/util/BitSet" (3 : Nat)) ∈ lw_all := lw_g (lw_at lw_m7 10 rfl) rfl
theorem q1574 : (Jvm.Cond.instanceMethod ({ cls := "java/util/BitSet", name := "<init>", desc := "()V" } : Jvm.MethodName)) ∈ lw_all := lw_g (lw_at lw_m7 12 rfl) rfl
theorem q1575 : (Jvm.Cond.code ({ cls := "java/util/BitSet", name := "<init>", desc := "()V" } : Jvm.MethodName) prog_60_method_4_code (1 : Nat) (Option.none : Option Jvm.ClassFile.FieldType)) ∈ lw_all := lw_g (lw_at lw_m7 13 rfl) rfl
theorem q1576 : (Jvm.Cond.methodLink "java/util/BitSet" (21 : Nat) ({ cls := "java/lang/Object", name := "<init>", desc := "()V" } : Jvm.MethodName)) ∈ lw_all := lw_g (lw_at lw_m7 14 rfl) rfl
theorem q1577 : (Jvm.Cond.methodLink "java/util/BitSet" (27 : Nat) ({ cls := "java/util/BitSet", name := "initWords", desc := "(I)V" } : Jvm.MethodName)) ∈ lw_all := lw_g (lw_at lw_m7 15 rfl) rfl
theorem q1578 : (Jvm.Cond.privateMethod ({ cls := "java/util/BitSet", name := "initWords", desc := "(I)V" } : Jvm.MethodName)) ∈ lw_tbl := lw_at lw_m7 16 rfl
theorem q1579 : (Jvm.Cond.instanceMethod ({ cls := "java/util/BitSet", name := "initWords", desc := "(I)V" } : Jvm.MethodName)) ∈ lw_all := lw_g (lw_at lw_m7 17 rfl) rfl
theorem q1580 : (Jvm.Cond.code ({ cls := "java/util/BitSet", name := "initWords", desc := "(I)V" } : Jvm.MethodName) prog_60_method_6_code (2 : Nat) (Option.none : Option Jvm.ClassFile.FieldType)) ∈ lw_all := lw_g (lw_at lw_m7 18 rfl) rfl
theorem q1581 : (Jvm.Cond.methodLink "java/util/BitSet" (52 : Nat) ({ cls := "java/util/BitSet", name := "wordIndex", desc := "(I)I" } : Jvm.MethodName)) ∈ lw_all := lw_g (lw_at lw_m7 19 rfl) rfl
theorem q1582 : (Jvm.Cond.static ({ cls := "java/util/BitSet", name := "wordIndex", desc := "(I)I" } : Jvm.MethodName)) ∈ lw_all := lw_g (lw_at lw_m7 20 rfl) rfl
theorem q1583 : (Jvm.Cond.code ({ cls := "java/util/BitSet", name := "wordIndex", desc := "(I)I" } : Jvm.MethodName) prog_60_method_1_code (1 : Nat) (Option.some Jvm.ClassFile.FieldType.int)) ∈ lw_all := lw_g (lw_at lw_m7 21 rfl) rfl
theorem q1584 : (Jvm.Cond.fieldLink "java/util/BitSet" (11 : Nat) "java/util/BitSet" "words" "[J") ∈ lw_all := lw_g (lw_at lw_m7 22 rfl) rfl
theorem q1585 : (Jvm.Cond.fieldLink "java/util/BitSet" (7 : Nat) "java/util/BitSet" "wordsInUse" "I") ∈ lw_all := lw_g (lw_at lw_m7 23 rfl) rfl
theorem q1586 : (Jvm.Cond.fieldLink "java/util/BitSet" (24 : Nat) "java/util/BitSet" "sizeIsSticky" "Z") ∈ lw_all := lw_g (lw_at lw_m7 24 rfl) rfl
theorem q1587 : (Jvm.Cond.lays "java/util/BitSet" "java/util/BitSet" "words" "[J") ∈ lw_all := lw_g (lw_at lw_m7 25 rfl) rfl
theorem q1588 : (Jvm.Cond.soleField "java/util/BitSet" "words") ∈ lw_all := lw_g (lw_at lw_m7 26 rfl) rfl
theorem q1589 : (Jvm.Cond.lays "java/util/BitSet" "java/util/BitSet" "wordsInUse" "I") ∈ lw_all := lw_g (lw_at lw_m7 27 rfl) rfl
theorem q1590 : (Jvm.Cond.soleField "java/util/BitSet" "wordsInUse") ∈ lw_all := lw_g (lw_at lw_m7 28 rfl) rfl
theorem q1591 : (Jvm.Cond.lays "java/util/BitSet" "java/util/BitSet" "sizeIsSticky" "Z") ∈ lw_all := lw_g (lw_at lw_m7 29 rfl) rfl
theorem q1592 : (Jvm.Cond.soleField "java/util/BitSet" "sizeIsSticky") ∈ lw_all := lw_g (lw_at lw_m7 30 rfl) rfl
theorem q1593 : (Jvm.Cond.superclass "java/util/BitSet" "java/lang/Object") ∈ lw_all := lw_g (lw_at lw_m7 31 rfl) rfl
theorem q1663 : (Jvm.Cond.instanceMethod ({ cls := "java/util/BitSet", name := "set", desc := "(I)V" } : Jvm.MethodName)) ∈ lw_all := lw_g (lw_at lw_m7 101 rfl) rfl
theorem q1664 : (Jvm.Cond.selects "java/util/BitSet" ({ cls := "java/util/BitSet", name := "set", desc := "(I)V" } : Jvm.MethodName) ({ cls := "java/util/BitSet", name := "set", desc := "(I)V" } : Jvm.MethodName)) ∈ lw_all := lw_g (lw_at lw_m7 102 rfl) rfl
theorem q1665 : (Jvm.Cond.code ({ cls := "java/util/BitSet", name := "set", desc := "(I)V" } : Jvm.MethodName) prog_60_method_19_code (3 : Nat) (Option.none : Option Jvm.ClassFile.FieldType)) ∈ lw_all := lw_g (lw_at lw_m7 103 rfl) rfl
theorem q1666 : (Jvm.Cond.classLink "java/util/BitSet" (142 : Nat) "java/lang/IndexOutOfBoundsException") ∈ lw_all := lw_g (lw_at lw_m7 104 rfl) rfl
theorem q1675 : (Jvm.Cond.classLink "java/util/BitSet" (33 : Nat) "java/lang/StringBuilder") ∈ lw_all := lw_g (lw_at lw_m7 113 rfl) rfl
theorem q1677 : (Jvm.Cond.methodLink "java/util/BitSet" (35 : Nat) ({ cls := "java/lang/StringBuilder", name := "<init>", desc := "()V" } : Jvm.MethodName)) ∈ lw_all := lw_g (lw_at lw_m7 115 rfl) rfl
theorem q1704 : (Jvm.Cond.stringRef "java/util/BitSet" (153 : Nat) "bitIndex < 0: ") ∈ lw_tbl := lw_at lw_m7 142 rfl
theorem q1705 : (Jvm.Cond.methodLink "java/util/BitSet" (38 : Nat) ({ cls := "java/lang/StringBuilder", name := "append", desc := "(Ljava/lang/String;)Ljava/lang/StringBuilder;" } : Jvm.MethodName)) ∈ lw_all := lw_g (lw_at lw_m7 143 rfl) rfl
theorem q1786 : (Jvm.Cond.methodLink "java/util/BitSet" (42 : Nat) ({ cls := "java/lang/StringBuilder", name := "append", desc := "(I)Ljava/lang/StringBuilder;" } : Jvm.MethodName)) ∈ lw_all := lw_g (lw_at lw_m7 224 rfl) rfl
theorem q1811 : (Jvm.Cond.methodLink "java/util/BitSet" (45 : Nat) ({ cls := "java/lang/StringBuilder", name := "toString", desc := "()Ljava/lang/String;" } : Jvm.MethodName)) ∈ lw_all := lw_g (lw_at lw_m8 9 rfl) rfl
theorem q1887 : (Jvm.Cond.methodLink "java/util/BitSet" (146 : Nat) ({ cls := "java/lang/IndexOutOfBoundsException", name := "<init>", desc := "(Ljava/lang/String;)V" } : Jvm.MethodName)) ∈ lw_all := lw_g (lw_at lw_m8 85 rfl) rfl
theorem q1893 : (Jvm.Cond.methodLink "java/util/BitSet" (155 : Nat) ({ cls := "java/util/BitSet", name := "expandTo", desc := "(I)V" } : Jvm.MethodName)) ∈ lw_all := lw_g (lw_at lw_m8 91 rfl) rfl
theorem q1894 : (Jvm.Cond.privateMethod ({ cls := "java/util/BitSet", name := "expandTo", desc := "(I)V" } : Jvm.MethodName)) ∈ lw_tbl := lw_at lw_m8 92 rfl
theorem q1895 : (Jvm.Cond.instanceMethod ({ cls := "java/util/BitSet", name := "expandTo", desc := "(I)V" } : Jvm.MethodName)) ∈ lw_all := lw_g (lw_at lw_m8 93 rfl) rfl
theorem q1896 : (Jvm.Cond.code ({ cls := "java/util/BitSet", name := "expandTo", desc := "(I)V" } : Jvm.MethodName) prog_60_method_15_code (3 : Nat) (Option.none : Option Jvm.ClassFile.FieldType)) ∈ lw_all := lw_g (lw_at lw_m8 94 rfl) rfl
theorem q1897 : (Jvm.Cond.methodLink "java/util/BitSet" (139 : Nat) ({ cls := "java/util/BitSet", name := "ensureCapacity", desc := "(I)V" } : Jvm.MethodName)) ∈ lw_all := lw_g (lw_at lw_m8 95 rfl) rfl
theorem q1898 : (Jvm.Cond.privateMethod ({ cls := "java/util/BitSet", name := "ensureCapacity", desc := "(I)V" } : Jvm.MethodName)) ∈ lw_tbl := lw_at lw_m8 96 rfl
theorem q1899 : (Jvm.Cond.instanceMethod ({ cls := "java/util/BitSet", name := "ensureCapacity", desc := "(I)V" } : Jvm.MethodName)) ∈ lw_all := lw_g (lw_at lw_m8 97 rfl) rfl
theorem q1900 : (Jvm.Cond.code ({ cls := "java/util/BitSet", name := "ensureCapacity", desc := "(I)V" } : Jvm.MethodName) prog_60_method_14_code (3 : Nat) (Option.none : Option Jvm.ClassFile.FieldType)) ∈ lw_all := lw_g (lw_at lw_m8 98 rfl) rfl
theorem q1901 : (Jvm.Cond.methodLink "java/util/BitSet" (133 : Nat) ({ cls := "java/lang/Math", name := "max", desc := "(II)I" } : Jvm.MethodName)) ∈ lw_all := lw_g (lw_at lw_m8 99 rfl) rfl
theorem q1902 : (Jvm.Cond.methodLink "java/util/BitSet" (59 : Nat) ({ cls := "java/util/Arrays", name := "copyOf", desc := "([JI)[J" } : Jvm.MethodName)) ∈ lw_all := lw_g (lw_at lw_m8 100 rfl) rfl
theorem q1910 : (Jvm.Cond.methodLink "java/util/BitSet" (56 : Nat) ({ cls := "java/util/BitSet", name := "checkInvariants", desc := "()V" } : Jvm.MethodName)) ∈ lw_all := lw_g (lw_at lw_m8 108 rfl) rfl
theorem q1911 : (Jvm.Cond.privateMethod ({ cls := "java/util/BitSet", name := "checkInvariants", desc := "()V" } : Jvm.MethodName)) ∈ lw_tbl := lw_at lw_m8 109 rfl
theorem q1912 : (Jvm.Cond.instanceMethod ({ cls := "java/util/BitSet", name := "checkInvariants", desc := "()V" } : Jvm.MethodName)) ∈ lw_all := lw_g (lw_at lw_m8 110 rfl) rfl
theorem q1913 : (Jvm.Cond.code ({ cls := "java/util/BitSet", name := "checkInvariants", desc := "()V" } : Jvm.MethodName) prog_60_method_2_code (1 : Nat) (Option.none : Option Jvm.ClassFile.FieldType)) ∈ lw_all := lw_g (lw_at lw_m8 111 rfl) rfl
theorem q1914 : (Jvm.Cond.fieldLink "java/util/BitSet" (3 : Nat) "java/util/BitSet" "$assertionsDisabled" "Z") ∈ lw_all := lw_g (lw_at lw_m8 112 rfl) rfl
theorem q1915 : (Jvm.Cond.laysStatic "java/util/BitSet" "$assertionsDisabled" "Z") ∈ lw_tbl := lw_at lw_m8 113 rfl
theorem q1950 : (Jvm.Cond.instanceMethod ({ cls := "java/util/BitSet", name := "clone", desc := "()Ljava/lang/Object;" } : Jvm.MethodName)) ∈ lw_all := lw_g (lw_at lw_m8 148 rfl) rfl
theorem q1951 : (Jvm.Cond.selects "java/util/BitSet" ({ cls := "java/util/BitSet", name := "clone", desc := "()Ljava/lang/Object;" } : Jvm.MethodName) ({ cls := "java/util/BitSet", name := "clone", desc := "()Ljava/lang/Object;" } : Jvm.MethodName)) ∈ lw_all := lw_g (lw_at lw_m8 149 rfl) rfl
theorem q1952 : (Jvm.Cond.codeWith ({ cls := "java/util/BitSet", name := "clone", desc := "()Ljava/lang/Object;" } : Jvm.MethodName) prog_60_method_43_code (2 : Nat) (Option.some (Jvm.ClassFile.FieldType.object "java/lang/Object")) [((11 : Nat), (38 : Nat), (39 : Nat), (216 : Nat))]) ∈ lw_all := lw_g (lw_at lw_m8 150 rfl) rfl
theorem q1953 : (Jvm.Cond.methodLink "java/util/BitSet" (207 : Nat) ({ cls := "java/util/BitSet", name := "trimToSize", desc := "()V" } : Jvm.MethodName)) ∈ lw_all := lw_g (lw_at lw_m8 151 rfl) rfl
theorem q1954 : (Jvm.Cond.privateMethod ({ cls := "java/util/BitSet", name := "trimToSize", desc := "()V" } : Jvm.MethodName)) ∈ lw_tbl := lw_at lw_m8 152 rfl
theorem q1955 : (Jvm.Cond.instanceMethod ({ cls := "java/util/BitSet", name := "trimToSize", desc := "()V" } : Jvm.MethodName)) ∈ lw_all := lw_g (lw_at lw_m8 153 rfl) rfl
theorem q1956 : (Jvm.Cond.code ({ cls := "java/util/BitSet", name := "trimToSize", desc := "()V" } : Jvm.MethodName) prog_60_method_44_code (1 : Nat) (Option.none : Option Jvm.ClassFile.FieldType)) ∈ lw_all := lw_g (lw_at lw_m8 154 rfl) rfl
theorem q1957 : (Jvm.Cond.methodLink "java/util/BitSet" (210 : Nat) ({ cls := "java/lang/Object", name := "clone", desc := "()Ljava/lang/Object;" } : Jvm.MethodName)) ∈ lw_all := lw_g (lw_at lw_m8 155 rfl) rfl
theorem q1958 : (Jvm.Cond.classLink "java/util/BitSet" (1 : Nat) "java/util/BitSet") ∈ lw_all := lw_g (lw_at lw_m8 156 rfl) rfl
theorem q1959 : (Jvm.Cond.methodLink "java/util/BitSet" (214 : Nat) ({ cls := "[J", name := "clone", desc := "()Ljava/lang/Object;" } : Jvm.MethodName)) ∈ lw_all := lw_g (lw_at lw_m8 157 rfl) rfl
theorem q1960 : (Jvm.Cond.classLink "java/util/BitSet" (215 : Nat) "[J") ∈ lw_all := lw_g (lw_at lw_m8 158 rfl) rfl
theorem q1962 : (Jvm.Cond.instanceMethod ({ cls := "java/util/BitSet", name := "isEmpty", desc := "()Z" } : Jvm.MethodName)) ∈ lw_all := lw_g (lw_at lw_m8 160 rfl) rfl
theorem q1963 : (Jvm.Cond.selects "java/util/BitSet" ({ cls := "java/util/BitSet", name := "isEmpty", desc := "()Z" } : Jvm.MethodName) ({ cls := "java/util/BitSet", name := "isEmpty", desc := "()Z" } : Jvm.MethodName)) ∈ lw_all := lw_g (lw_at lw_m8 161 rfl) rfl
theorem q1964 : (Jvm.Cond.code ({ cls := "java/util/BitSet", name := "isEmpty", desc := "()Z" } : Jvm.MethodName) prog_60_method_33_code (1 : Nat) (Option.some Jvm.ClassFile.FieldType.boolean)) ∈ lw_all := lw_g (lw_at lw_m8 162 rfl) rfl
theorem q1966 : (Jvm.Cond.instanceMethod ({ cls := "java/util/BitSet", name := "nextSetBit", desc := "(I)I" } : Jvm.MethodName)) ∈ lw_all := lw_g (lw_at lw_m8 164 rfl) rfl
theorem q1967 : (Jvm.Cond.selects "java/util/BitSet" ({ cls := "java/util/BitSet", name := "nextSetBit", desc := "(I)I" } : Jvm.MethodName) ({ cls := "java/util/BitSet", name := "nextSetBit", desc := "(I)I" } : Jvm.MethodName)) ∈ lw_all := lw_g (lw_at lw_m8 165 rfl) rfl
theorem q1968 : (Jvm.Cond.code ({ cls := "java/util/BitSet", name := "nextSetBit", desc := "(I)I" } : Jvm.MethodName) prog_60_method_28_code (5 : Nat) (Option.some Jvm.ClassFile.FieldType.int)) ∈ lw_all := lw_g (lw_at lw_m8 166 rfl) rfl
theorem q1969 : (Jvm.Cond.stringRef "java/util/BitSet" (144 : Nat) "fromIndex < 0: ") ∈ lw_tbl := lw_at lw_m8 167 rfl
theorem q1970 : (Jvm.Cond.constantLong "java/util/BitSet" (165 : Nat) (-1 : Int64)) ∈ lw_all := lw_g (lw_at lw_m8 168 rfl) rfl
theorem q1971 : (Jvm.Cond.methodLink "java/util/BitSet" (182 : Nat) ({ cls := "java/lang/Long", name := "numberOfTrailingZeros", desc := "(J)I" } : Jvm.MethodName)) ∈ lw_all := lw_g (lw_at lw_m8 169 rfl) rfl
theorem q1973 : (Jvm.Cond.instanceMethod ({ cls := "java/util/BitSet", name := "clear", desc := "(I)V" } : Jvm.MethodName)) ∈ lw_all := lw_g (lw_at lw_m8 171 rfl) rfl
theorem q1974 : (Jvm.Cond.selects "java/util/BitSet" ({ cls := "java/util/BitSet", name := "clear", desc := "(I)V" } : Jvm.MethodName) ({ cls := "java/util/BitSet", name := "clear", desc := "(I)V" } : Jvm.MethodName)) ∈ lw_all := lw_g (lw_at lw_m8 172 rfl) rfl
theorem q1975 : (Jvm.Cond.code ({ cls := "java/util/BitSet", name := "clear", desc := "(I)V" } : Jvm.MethodName) prog_60_method_23_code (3 : Nat) (Option.none : Option Jvm.ClassFile.FieldType)) ∈ lw_all := lw_g (lw_at lw_m8 173 rfl) rfl
theorem q1976 : (Jvm.Cond.methodLink "java/util/BitSet" (158 : Nat) ({ cls := "java/util/BitSet", name := "recalculateWordsInUse", desc := "()V" } : Jvm.MethodName)) ∈ lw_all := lw_g (lw_at lw_m8 174 rfl) rfl
theorem q1977 : (Jvm.Cond.privateMethod ({ cls := "java/util/BitSet", name := "recalculateWordsInUse", desc := "()V" } : Jvm.MethodName)) ∈ lw_tbl := lw_at lw_m8 175 rfl
theorem q1978 : (Jvm.Cond.instanceMethod ({ cls := "java/util/BitSet", name := "recalculateWordsInUse", desc := "()V" } : Jvm.MethodName)) ∈ lw_all := lw_g (lw_at lw_m8 176 rfl) rfl
theorem q1979 : (Jvm.Cond.code ({ cls := "java/util/BitSet", name := "recalculateWordsInUse", desc := "()V" } : Jvm.MethodName) prog_60_method_3_code (2 : Nat) (Option.none : Option Jvm.ClassFile.FieldType)) ∈ lw_all := lw_g (lw_at lw_m8 177 rfl) rfl
theorem q1981 : (Jvm.Cond.instanceMethod ({ cls := "java/util/BitSet", name := "or", desc := "(Ljava/util/BitSet;)V" } : Jvm.MethodName)) ∈ lw_all := lw_g (lw_at lw_m8 179 rfl) rfl
theorem q1982 : (Jvm.Cond.selects "java/util/BitSet" ({ cls := "java/util/BitSet", name := "or", desc := "(Ljava/util/BitSet;)V" } : Jvm.MethodName) ({ cls := "java/util/BitSet", name := "or", desc := "(Ljava/util/BitSet;)V" } : Jvm.MethodName)) ∈ lw_all := lw_g (lw_at lw_m8 180 rfl) rfl
theorem q1983 : (Jvm.Cond.code ({ cls := "java/util/BitSet", name := "or", desc := "(Ljava/util/BitSet;)V" } : Jvm.MethodName) prog_60_method_37_code (4 : Nat) (Option.none : Option Jvm.ClassFile.FieldType)) ∈ lw_all := lw_g (lw_at lw_m8 181 rfl) rfl
theorem q1984 : (Jvm.Cond.methodLink "java/util/BitSet" (193 : Nat) ({ cls := "java/lang/Math", name := "min", desc := "(II)I" } : Jvm.MethodName)) ∈ lw_all := lw_g (lw_at lw_m8 182 rfl) rfl
theorem q1985 : (Jvm.Cond.methodLink "java/util/BitSet" (199 : Nat) ({ cls := "java/lang/System", name := "arraycopy", desc := "(Ljava/lang/Object;ILjava/lang/Object;II)V" } : Jvm.MethodName)) ∈ lw_all := lw_g (lw_at lw_m8 183 rfl) rfl
theorem q1987 : (Jvm.Cond.instanceMethod ({ cls := "java/util/BitSet", name := "andNot", desc := "(Ljava/util/BitSet;)V" } : Jvm.MethodName)) ∈ lw_all := lw_g (lw_at lw_m8 185 rfl) rfl
theorem q1988 : (Jvm.Cond.selects "java/util/BitSet" ({ cls := "java/util/BitSet", name := "andNot", desc := "(Ljava/util/BitSet;)V" } : Jvm.MethodName) ({ cls := "java/util/BitSet", name := "andNot", desc := "(Ljava/util/BitSet;)V" } : Jvm.MethodName)) ∈ lw_all := lw_g (lw_at lw_m8 186 rfl) rfl
theorem q1989 : (Jvm.Cond.code ({ cls := "java/util/BitSet", name := "andNot", desc := "(Ljava/util/BitSet;)V" } : Jvm.MethodName) prog_60_method_39_code (3 : Nat) (Option.none : Option Jvm.ClassFile.FieldType)) ∈ lw_all := lw_g (lw_at lw_m8 187 rfl) rfl
theorem q1991 : (Jvm.Cond.instanceMethod ({ cls := "java/util/BitSet", name := "get", desc := "(I)Z" } : Jvm.MethodName)) ∈ lw_all := lw_g (lw_at lw_m8 189 rfl) rfl
theorem q1992 : (Jvm.Cond.selects "java/util/BitSet" ({ cls := "java/util/BitSet", name := "get", desc := "(I)Z" } : Jvm.MethodName) ({ cls := "java/util/BitSet", name := "get", desc := "(I)Z" } : Jvm.MethodName)) ∈ lw_all := lw_g (lw_at lw_m8 190 rfl) rfl
theorem q1993 : (Jvm.Cond.code ({ cls := "java/util/BitSet", name := "get", desc := "(I)Z" } : Jvm.MethodName) prog_60_method_26_code (3 : Nat) (Option.some Jvm.ClassFile.FieldType.boolean)) ∈ lw_all := lw_g (lw_at lw_m8 191 rfl) rfl
theorem q3459 : (Jvm.Cond.castable "java/util/BitSet" "java/lang/Cloneable") ∈ lw_tbl := lw_at lw_m14 217 rfl
theorem q3460 : (Jvm.Cond.castable "java/util/BitSet" "java/lang/Object") ∈ lw_tbl := lw_at lw_m14 218 rfl
theorem in_J40 : ∀ w ∈ wsJ400, w ∈ lw_all := lw_in wsJ400 [1587, 1589, 1591] (by decide +kernel) (by decide +kernel)

/-! java/lang/AbstractStringBuilder -/
set_option maxRecDepth 100000
def RJ41 : String := "java/lang/AbstractStringBuilder"
theorem q180 : (Jvm.Cond.initialized "java/lang/AbstractStringBuilder") ∈ lw_all := lw_g (lw_at lw_m1 58 rfl) rfl
theorem q577 : (Jvm.Cond.instanceMethod ({ cls := "java/lang/AbstractStringBuilder", name := "compareTo", desc := "(Ljava/lang/AbstractStringBuilder;)I" } : Jvm.MethodName)) ∈ lw_all := lw_g (lw_at lw_m2 215 rfl) rfl
theorem q578 : (Jvm.Cond.code ({ cls := "java/lang/AbstractStringBuilder", name := "compareTo", desc := "(Ljava/lang/AbstractStringBuilder;)I" } : Jvm.MethodName) prog_23_method_5_code (6 : Nat) (Option.some Jvm.ClassFile.FieldType.int)) ∈ lw_all := lw_g (lw_at lw_m2 216 rfl) rfl
theorem q579 : (Jvm.Cond.methodLink "java/lang/AbstractStringBuilder" (83 : Nat) ({ cls := "java/lang/AbstractStringBuilder", name := "isLatin1", desc := "()Z" } : Jvm.MethodName)) ∈ lw_all := lw_g (lw_at lw_m2 217 rfl) rfl
theorem q580 : (Jvm.Cond.instanceMethod ({ cls := "java/lang/AbstractStringBuilder", name := "isLatin1", desc := "()Z" } : Jvm.MethodName)) ∈ lw_all := lw_g (lw_at lw_m2 218 rfl) rfl
theorem q581 : (Jvm.Cond.sameMethod "java/lang/AbstractStringBuilder" "java/lang/AbstractStringBuilder" "isLatin1" "()Z") ∈ lw_all := lw_g (lw_at lw_m2 219 rfl) rfl
theorem q583 : (Jvm.Cond.code ({ cls := "java/lang/AbstractStringBuilder", name := "isLatin1", desc := "()Z" } : Jvm.MethodName) prog_23_method_68_code (1 : Nat) (Option.some Jvm.ClassFile.FieldType.boolean)) ∈ lw_all := lw_g (lw_at lw_m2 221 rfl) rfl
theorem q584 : (Jvm.Cond.fieldLink "java/lang/AbstractStringBuilder" (18 : Nat) "java/lang/String" "COMPACT_STRINGS" "Z") ∈ lw_all := lw_g (lw_at lw_m2 222 rfl) rfl
theorem q585 : (Jvm.Cond.methodLink "java/lang/AbstractStringBuilder" (87 : Nat) ({ cls := "java/lang/StringLatin1", name := "compareTo", desc := "([B[BII)I" } : Jvm.MethodName)) ∈ lw_all := lw_g (lw_at lw_m2 223 rfl) rfl
theorem q586 : (Jvm.Cond.methodLink "java/lang/AbstractStringBuilder" (93 : Nat) ({ cls := "java/lang/StringUTF16", name := "compareTo", desc := "([B[BII)I" } : Jvm.MethodName)) ∈ lw_all := lw_g (lw_at lw_m2 224 rfl) rfl
theorem q600 : (Jvm.Cond.methodLink "java/lang/AbstractStringBuilder" (94 : Nat) ({ cls := "java/lang/StringLatin1", name := "compareToUTF16", desc := "([B[BII)I" } : Jvm.MethodName)) ∈ lw_all := lw_g (lw_at lw_m2 238 rfl) rfl
theorem q604 : (Jvm.Cond.methodLink "java/lang/AbstractStringBuilder" (97 : Nat) ({ cls := "java/lang/StringUTF16", name := "compareToLatin1", desc := "([B[BII)I" } : Jvm.MethodName)) ∈ lw_all := lw_g (lw_at lw_m3 2 rfl) rfl
theorem q1681 : (Jvm.Cond.instanceMethod ({ cls := "java/lang/AbstractStringBuilder", name := "<init>", desc := "(I)V" } : Jvm.MethodName)) ∈ lw_all := lw_g (lw_at lw_m7 119 rfl) rfl
theorem q1682 : (Jvm.Cond.code ({ cls := "java/lang/AbstractStringBuilder", name := "<init>", desc := "(I)V" } : Jvm.MethodName) prog_23_method_2_code (2 : Nat) (Option.none : Option Jvm.ClassFile.FieldType)) ∈ lw_all := lw_g (lw_at lw_m7 120 rfl) rfl
theorem q1683 : (Jvm.Cond.methodLink "java/lang/AbstractStringBuilder" (3 : Nat) ({ cls := "java/lang/Object", name := "<init>", desc := "()V" } : Jvm.MethodName)) ∈ lw_all := lw_g (lw_at lw_m7 121 rfl) rfl
theorem q1684 : (Jvm.Cond.methodLink "java/lang/AbstractStringBuilder" (26 : Nat) ({ cls := "java/lang/StringUTF16", name := "newBytesFor", desc := "(I)[B" } : Jvm.MethodName)) ∈ lw_all := lw_g (lw_at lw_m7 122 rfl) rfl
theorem q1691 : (Jvm.Cond.fieldLink "java/lang/AbstractStringBuilder" (15 : Nat) "java/lang/AbstractStringBuilder" "value" "[B") ∈ lw_all := lw_g (lw_at lw_m7 129 rfl) rfl
theorem q1692 : (Jvm.Cond.fieldLink "java/lang/AbstractStringBuilder" (22 : Nat) "java/lang/AbstractStringBuilder" "coder" "B") ∈ lw_all := lw_g (lw_at lw_m7 130 rfl) rfl
theorem q1694 : (Jvm.Cond.fieldLink "java/lang/AbstractStringBuilder" (79 : Nat) "java/lang/AbstractStringBuilder" "count" "I") ∈ lw_all := lw_g (lw_at lw_m7 132 rfl) rfl
theorem q1696 : (Jvm.Cond.soleField "java/lang/AbstractStringBuilder" "value") ∈ lw_all := lw_g (lw_at lw_m7 134 rfl) rfl
theorem q1698 : (Jvm.Cond.soleField "java/lang/AbstractStringBuilder" "coder") ∈ lw_all := lw_g (lw_at lw_m7 136 rfl) rfl
theorem q1700 : (Jvm.Cond.soleField "java/lang/AbstractStringBuilder" "maybeLatin1") ∈ lw_all := lw_g (lw_at lw_m7 138 rfl) rfl
theorem q1702 : (Jvm.Cond.soleField "java/lang/AbstractStringBuilder" "count") ∈ lw_all := lw_g (lw_at lw_m7 140 rfl) rfl
theorem q1710 : (Jvm.Cond.instanceMethod ({ cls := "java/lang/AbstractStringBuilder", name := "append", desc := "(Ljava/lang/String;)Ljava/lang/AbstractStringBuilder;" } : Jvm.MethodName)) ∈ lw_all := lw_g (lw_at lw_m7 148 rfl) rfl
theorem q1711 : (Jvm.Cond.code ({ cls := "java/lang/AbstractStringBuilder", name := "append", desc := "(Ljava/lang/String;)Ljava/lang/AbstractStringBuilder;" } : Jvm.MethodName) prog_23_method_22_code (3 : Nat) (Option.some (Jvm.ClassFile.FieldType.object "java/lang/AbstractStringBuilder"))) ∈ lw_all := lw_g (lw_at lw_m7 149 rfl) rfl
theorem q1712 : (Jvm.Cond.methodLink "java/lang/AbstractStringBuilder" (204 : Nat) ({ cls := "java/lang/AbstractStringBuilder", name := "appendNull", desc := "()Ljava/lang/AbstractStringBuilder;" } : Jvm.MethodName)) ∈ lw_all := lw_g (lw_at lw_m7 150 rfl) rfl
theorem q1713 : (Jvm.Cond.privateMethod ({ cls := "java/lang/AbstractStringBuilder", name := "appendNull", desc := "()Ljava/lang/AbstractStringBuilder;" } : Jvm.MethodName)) ∈ lw_tbl := lw_at lw_m7 151 rfl
theorem q1714 : (Jvm.Cond.instanceMethod ({ cls := "java/lang/AbstractStringBuilder", name := "appendNull", desc := "()Ljava/lang/AbstractStringBuilder;" } : Jvm.MethodName)) ∈ lw_all := lw_g (lw_at lw_m7 152 rfl) rfl
theorem q1715 : (Jvm.Cond.code ({ cls := "java/lang/AbstractStringBuilder", name := "appendNull", desc := "()Ljava/lang/AbstractStringBuilder;" } : Jvm.MethodName) prog_23_method_26_code (3 : Nat) (Option.some (Jvm.ClassFile.FieldType.object "java/lang/AbstractStringBuilder"))) ∈ lw_all := lw_g (lw_at lw_m7 153 rfl) rfl
theorem q1716 : (Jvm.Cond.methodLink "java/lang/AbstractStringBuilder" (100 : Nat) ({ cls := "java/lang/AbstractStringBuilder", name := "ensureCapacityInternal", desc := "(I)V" } : Jvm.MethodName)) ∈ lw_all := lw_g (lw_at lw_m7 154 rfl) rfl
theorem q1717 : (Jvm.Cond.privateMethod ({ cls := "java/lang/AbstractStringBuilder", name := "ensureCapacityInternal", desc := "(I)V" } : Jvm.MethodName)) ∈ lw_tbl := lw_at lw_m7 155 rfl
theorem q1718 : (Jvm.Cond.instanceMethod ({ cls := "java/lang/AbstractStringBuilder", name := "ensureCapacityInternal", desc := "(I)V" } : Jvm.MethodName)) ∈ lw_all := lw_g (lw_at lw_m7 156 rfl) rfl
theorem q1719 : (Jvm.Cond.code ({ cls := "java/lang/AbstractStringBuilder", name := "ensureCapacityInternal", desc := "(I)V" } : Jvm.MethodName) prog_23_method_9_code (3 : Nat) (Option.none : Option Jvm.ClassFile.FieldType)) ∈ lw_all := lw_g (lw_at lw_m7 157 rfl) rfl
theorem q1720 : (Jvm.Cond.methodLink "java/lang/AbstractStringBuilder" (104 : Nat) ({ cls := "java/lang/AbstractStringBuilder", name := "newCapacity", desc := "(I)I" } : Jvm.MethodName)) ∈ lw_all := lw_g (lw_at lw_m7 158 rfl) rfl
theorem q1721 : (Jvm.Cond.privateMethod ({ cls := "java/lang/AbstractStringBuilder", name := "newCapacity", desc := "(I)I" } : Jvm.MethodName)) ∈ lw_tbl := lw_at lw_m7 159 rfl
theorem q1722 : (Jvm.Cond.instanceMethod ({ cls := "java/lang/AbstractStringBuilder", name := "newCapacity", desc := "(I)I" } : Jvm.MethodName)) ∈ lw_all := lw_g (lw_at lw_m7 160 rfl) rfl
theorem q1723 : (Jvm.Cond.code ({ cls := "java/lang/AbstractStringBuilder", name := "newCapacity", desc := "(I)I" } : Jvm.MethodName) prog_23_method_10_code (6 : Nat) (Option.some Jvm.ClassFile.FieldType.int)) ∈ lw_all := lw_g (lw_at lw_m7 161 rfl) rfl
theorem q1724 : (Jvm.Cond.methodLink "java/lang/AbstractStringBuilder" (114 : Nat) ({ cls := "jdk/internal/util/ArraysSupport", name := "newLength", desc := "(III)I" } : Jvm.MethodName)) ∈ lw_all := lw_g (lw_at lw_m7 162 rfl) rfl
theorem q1725 : (Jvm.Cond.constant "java/lang/AbstractStringBuilder" (39 : Nat) (2147483647 : Int32)) ∈ lw_all := lw_g (lw_at lw_m7 163 rfl) rfl
theorem q1726 : (Jvm.Cond.methodLink "java/lang/AbstractStringBuilder" (108 : Nat) ({ cls := "java/util/Arrays", name := "copyOf", desc := "([BI)[B" } : Jvm.MethodName)) ∈ lw_all := lw_g (lw_at lw_m7 164 rfl) rfl
theorem q1736 : (Jvm.Cond.methodLink "java/lang/AbstractStringBuilder" (226 : Nat) ({ cls := "java/lang/StringUTF16", name := "putCharsAt", desc := "([BICCCC)I" } : Jvm.MethodName)) ∈ lw_all := lw_g (lw_at lw_m7 174 rfl) rfl
theorem q1748 : (Jvm.Cond.methodLink "java/lang/AbstractStringBuilder" (32 : Nat) ({ cls := "java/lang/String", name := "length", desc := "()I" } : Jvm.MethodName)) ∈ lw_all := lw_g (lw_at lw_m7 186 rfl) rfl
theorem q1752 : (Jvm.Cond.methodLink "java/lang/AbstractStringBuilder" (208 : Nat) ({ cls := "java/lang/AbstractStringBuilder", name := "putStringAt", desc := "(ILjava/lang/String;)V" } : Jvm.MethodName)) ∈ lw_all := lw_g (lw_at lw_m7 190 rfl) rfl
theorem q1753 : (Jvm.Cond.privateMethod ({ cls := "java/lang/AbstractStringBuilder", name := "putStringAt", desc := "(ILjava/lang/String;)V" } : Jvm.MethodName)) ∈ lw_tbl := lw_at lw_m7 191 rfl
theorem q1754 : (Jvm.Cond.instanceMethod ({ cls := "java/lang/AbstractStringBuilder", name := "putStringAt", desc := "(ILjava/lang/String;)V" } : Jvm.MethodName)) ∈ lw_all := lw_g (lw_at lw_m7 192 rfl) rfl
theorem q1755 : (Jvm.Cond.code ({ cls := "java/lang/AbstractStringBuilder", name := "putStringAt", desc := "(ILjava/lang/String;)V" } : Jvm.MethodName) prog_23_method_73_code (3 : Nat) (Option.none : Option Jvm.ClassFile.FieldType)) ∈ lw_all := lw_g (lw_at lw_m7 193 rfl) rfl
theorem q1756 : (Jvm.Cond.methodLink "java/lang/AbstractStringBuilder" (397 : Nat) ({ cls := "java/lang/AbstractStringBuilder", name := "inflateIfNeededFor", desc := "(Ljava/lang/String;)V" } : Jvm.MethodName)) ∈ lw_all := lw_g (lw_at lw_m7 194 rfl) rfl
theorem q1757 : (Jvm.Cond.privateMethod ({ cls := "java/lang/AbstractStringBuilder", name := "inflateIfNeededFor", desc := "(Ljava/lang/String;)V" } : Jvm.MethodName)) ∈ lw_tbl := lw_at lw_m7 195 rfl
theorem q1758 : (Jvm.Cond.instanceMethod ({ cls := "java/lang/AbstractStringBuilder", name := "inflateIfNeededFor", desc := "(Ljava/lang/String;)V" } : Jvm.MethodName)) ∈ lw_all := lw_g (lw_at lw_m7 196 rfl) rfl
theorem q1759 : (Jvm.Cond.code ({ cls := "java/lang/AbstractStringBuilder", name := "inflateIfNeededFor", desc := "(Ljava/lang/String;)V" } : Jvm.MethodName) prog_23_method_71_code (2 : Nat) (Option.none : Option Jvm.ClassFile.FieldType)) ∈ lw_all := lw_g (lw_at lw_m7 197 rfl) rfl
theorem q1760 : (Jvm.Cond.methodLink "java/lang/AbstractStringBuilder" (40 : Nat) ({ cls := "java/lang/String", name := "coder", desc := "()B" } : Jvm.MethodName)) ∈ lw_all := lw_g (lw_at lw_m7 198 rfl) rfl
theorem q1761 : (Jvm.Cond.methodLink "java/lang/AbstractStringBuilder" (195 : Nat) ({ cls := "java/lang/AbstractStringBuilder", name := "inflate", desc := "()V" } : Jvm.MethodName)) ∈ lw_all := lw_g (lw_at lw_m7 199 rfl) rfl
theorem q1762 : (Jvm.Cond.privateMethod ({ cls := "java/lang/AbstractStringBuilder", name := "inflate", desc := "()V" } : Jvm.MethodName)) ∈ lw_tbl := lw_at lw_m7 200 rfl
theorem q1763 : (Jvm.Cond.instanceMethod ({ cls := "java/lang/AbstractStringBuilder", name := "inflate", desc := "()V" } : Jvm.MethodName)) ∈ lw_all := lw_g (lw_at lw_m7 201 rfl) rfl
theorem q1764 : (Jvm.Cond.code ({ cls := "java/lang/AbstractStringBuilder", name := "inflate", desc := "()V" } : Jvm.MethodName) prog_23_method_11_code (2 : Nat) (Option.none : Option Jvm.ClassFile.FieldType)) ∈ lw_all := lw_g (lw_at lw_m7 202 rfl) rfl
theorem q1765 : (Jvm.Cond.methodLink "java/lang/AbstractStringBuilder" (125 : Nat) ({ cls := "java/lang/StringLatin1", name := "inflate", desc := "([BI[BII)V" } : Jvm.MethodName)) ∈ lw_all := lw_g (lw_at lw_m7 203 rfl) rfl
theorem q1780 : (Jvm.Cond.methodLink "java/lang/AbstractStringBuilder" (399 : Nat) ({ cls := "java/lang/String", name := "getBytes", desc := "([BIB)V" } : Jvm.MethodName)) ∈ lw_all := lw_g (lw_at lw_m7 218 rfl) rfl
theorem q1791 : (Jvm.Cond.instanceMethod ({ cls := "java/lang/AbstractStringBuilder", name := "append", desc := "(I)Ljava/lang/AbstractStringBuilder;" } : Jvm.MethodName)) ∈ lw_all := lw_g (lw_at lw_m7 229 rfl) rfl
theorem q1792 : (Jvm.Cond.code ({ cls := "java/lang/AbstractStringBuilder", name := "append", desc := "(I)Ljava/lang/AbstractStringBuilder;" } : Jvm.MethodName) prog_23_method_32_code (4 : Nat) (Option.some (Jvm.ClassFile.FieldType.object "java/lang/AbstractStringBuilder"))) ∈ lw_all := lw_g (lw_at lw_m7 230 rfl) rfl
theorem q1793 : (Jvm.Cond.methodLink "java/lang/AbstractStringBuilder" (245 : Nat) ({ cls := "java/lang/Integer", name := "stringSize", desc := "(I)I" } : Jvm.MethodName)) ∈ lw_all := lw_g (lw_at lw_m7 231 rfl) rfl
theorem q1796 : (Jvm.Cond.methodLink "java/lang/AbstractStringBuilder" (248 : Nat) ({ cls := "java/lang/Integer", name := "getChars", desc := "(II[B)I" } : Jvm.MethodName)) ∈ lw_all := lw_g (lw_at lw_m7 234 rfl) rfl
theorem q1803 : (Jvm.Cond.methodLink "java/lang/AbstractStringBuilder" (251 : Nat) ({ cls := "java/lang/StringUTF16", name := "getChars", desc := "(III[B)I" } : Jvm.MethodName)) ∈ lw_all := lw_g (lw_at lw_m8 1 rfl) rfl
theorem q1825 : (Jvm.Cond.instanceMethod ({ cls := "java/lang/AbstractStringBuilder", name := "getValue", desc := "()[B" } : Jvm.MethodName)) ∈ lw_all := lw_g (lw_at lw_m8 23 rfl) rfl
theorem q1826 : (Jvm.Cond.sameMethod "java/lang/AbstractStringBuilder" "java/lang/AbstractStringBuilder" "getValue" "()[B") ∈ lw_all := lw_g (lw_at lw_m8 24 rfl) rfl
theorem q1828 : (Jvm.Cond.code ({ cls := "java/lang/AbstractStringBuilder", name := "getValue", desc := "()[B" } : Jvm.MethodName) prog_23_method_64_code (1 : Nat) (Option.some (Jvm.ClassFile.FieldType.array Jvm.ClassFile.FieldType.byte))) ∈ lw_all := lw_g (lw_at lw_m8 26 rfl) rfl
theorem q1830 : (Jvm.Cond.instanceMethod ({ cls := "java/lang/AbstractStringBuilder", name := "length", desc := "()I" } : Jvm.MethodName)) ∈ lw_all := lw_g (lw_at lw_m8 28 rfl) rfl
theorem q1831 : (Jvm.Cond.sameMethod "java/lang/AbstractStringBuilder" "java/lang/AbstractStringBuilder" "length" "()I") ∈ lw_all := lw_g (lw_at lw_m8 29 rfl) rfl
theorem q1836 : (Jvm.Cond.code ({ cls := "java/lang/AbstractStringBuilder", name := "length", desc := "()I" } : Jvm.MethodName) prog_23_method_6_code (1 : Nat) (Option.some Jvm.ClassFile.FieldType.int)) ∈ lw_all := lw_g (lw_at lw_m8 34 rfl) rfl
theorem q3443 : (Jvm.Cond.sameMethod "java/lang/AbstractStringBuilder" "java/lang/AbstractStringBuilder" "compareTo" "(Ljava/lang/AbstractStringBuilder;)I") ∈ lw_all := lw_g (lw_at lw_m14 201 rfl) rfl
theorem q3447 : (Jvm.Cond.sameMethod "java/lang/AbstractStringBuilder" "java/lang/AbstractStringBuilder" "append" "(Ljava/lang/String;)Ljava/lang/AbstractStringBuilder;") ∈ lw_all := lw_g (lw_at lw_m14 205 rfl) rfl
theorem q3448 : (Jvm.Cond.sameMethod "java/lang/AbstractStringBuilder" "java/lang/AbstractStringBuilder" "appendNull" "()Ljava/lang/AbstractStringBuilder;") ∈ lw_all := lw_g (lw_at lw_m14 206 rfl) rfl
theorem q3449 : (Jvm.Cond.sameMethod "java/lang/AbstractStringBuilder" "java/lang/AbstractStringBuilder" "ensureCapacityInternal" "(I)V") ∈ lw_all := lw_g (lw_at lw_m14 207 rfl) rfl
theorem q3450 : (Jvm.Cond.sameMethod "java/lang/AbstractStringBuilder" "java/lang/AbstractStringBuilder" "newCapacity" "(I)I") ∈ lw_all := lw_g (lw_at lw_m14 208 rfl) rfl
theorem q3451 : (Jvm.Cond.sameMethod "java/lang/AbstractStringBuilder" "java/lang/AbstractStringBuilder" "putStringAt" "(ILjava/lang/String;)V") ∈ lw_all := lw_g (lw_at lw_m14 209 rfl) rfl
theorem q3452 : (Jvm.Cond.sameMethod "java/lang/AbstractStringBuilder" "java/lang/AbstractStringBuilder" "inflateIfNeededFor" "(Ljava/lang/String;)V") ∈ lw_all := lw_g (lw_at lw_m14 210 rfl) rfl
theorem q3453 : (Jvm.Cond.sameMethod "java/lang/AbstractStringBuilder" "java/lang/AbstractStringBuilder" "inflate" "()V") ∈ lw_all := lw_g (lw_at lw_m14 211 rfl) rfl
theorem q3454 : (Jvm.Cond.sameMethod "java/lang/AbstractStringBuilder" "java/lang/AbstractStringBuilder" "append" "(I)Ljava/lang/AbstractStringBuilder;") ∈ lw_all := lw_g (lw_at lw_m14 212 rfl) rfl

/-! java/lang/StringBuilder -/
set_option maxRecDepth 100000
def RJ42 : String := "java/lang/StringBuilder"
def TJ42 : u_T := fun k => match k with
  | 0 => ("java/lang/AbstractStringBuilder", "value", "[B", false)
  | 1 => ("java/lang/AbstractStringBuilder", "coder", "B", false)
  | 2 => ("java/lang/AbstractStringBuilder", "maybeLatin1", "Z", false)
  | _ => ("java/lang/AbstractStringBuilder", "count", "I", false)
def tyJ42 : Nat → FieldType := fun k => match k with
  | 0 => .array .byte
  | 1 => .byte
  | 2 => .boolean
  | _ => .int
abbrev wsJ420 : List Cond := u_ws RJ42 TJ42 4
theorem nmJ42 : ∀ a, a < 4 → ∀ b, b < 4 → a ≠ b → (TJ42 a).2.1 ≠ (TJ42 b).2.1 := by decide +kernel
theorem tyJ42_ok : ∀ k, k < 4 → parseFieldDescriptor (TJ42 k).2.2.1 = some (tyJ42 k) := by decide +kernel
theorem q181 : (Jvm.Cond.initialized "java/lang/StringBuilder") ∈ lw_all := lw_g (lw_at lw_m1 59 rfl) rfl
theorem q365 : (Jvm.Cond.selects "java/lang/StringBuilder" ({ cls := "java/lang/Object", name := "getClass", desc := "()Ljava/lang/Class;" } : Jvm.MethodName) ({ cls := "java/lang/Object", name := "getClass", desc := "()Ljava/lang/Class;" } : Jvm.MethodName)) ∈ lw_all := lw_g (lw_at lw_m2 3 rfl) rfl
theorem q564 : (Jvm.Cond.castable "java/lang/StringBuilder" "java/lang/Comparable") ∈ lw_tbl := lw_at lw_m2 202 rfl
theorem q565 : (Jvm.Cond.selects "java/lang/StringBuilder" ({ cls := "java/lang/Comparable", name := "compareTo", desc := "(Ljava/lang/Object;)I" } : Jvm.MethodName) ({ cls := "java/lang/StringBuilder", name := "compareTo", desc := "(Ljava/lang/Object;)I" } : Jvm.MethodName)) ∈ lw_all := lw_g (lw_at lw_m2 203 rfl) rfl
theorem q566 : (Jvm.Cond.unhidden "java/lang/StringBuilder" "compareTo" "(Ljava/lang/Object;)I") ∈ lw_tbl := lw_at lw_m2 204 rfl
theorem q567 : (Jvm.Cond.instanceMethod ({ cls := "java/lang/StringBuilder", name := "compareTo", desc := "(Ljava/lang/Object;)I" } : Jvm.MethodName)) ∈ lw_all := lw_g (lw_at lw_m2 205 rfl) rfl
theorem q568 : (Jvm.Cond.publicMethod ({ cls := "java/lang/StringBuilder", name := "compareTo", desc := "(Ljava/lang/Object;)I" } : Jvm.MethodName)) ∈ lw_tbl := lw_at lw_m2 206 rfl
theorem q569 : (Jvm.Cond.code ({ cls := "java/lang/StringBuilder", name := "compareTo", desc := "(Ljava/lang/Object;)I" } : Jvm.MethodName) prog_44_method_97_code (2 : Nat) (Option.some Jvm.ClassFile.FieldType.int)) ∈ lw_all := lw_g (lw_at lw_m2 207 rfl) rfl
theorem q570 : (Jvm.Cond.classLink "java/lang/StringBuilder" (24 : Nat) "java/lang/StringBuilder") ∈ lw_all := lw_g (lw_at lw_m2 208 rfl) rfl
theorem q571 : (Jvm.Cond.methodLink "java/lang/StringBuilder" (346 : Nat) ({ cls := "java/lang/StringBuilder", name := "compareTo", desc := "(Ljava/lang/StringBuilder;)I" } : Jvm.MethodName)) ∈ lw_all := lw_g (lw_at lw_m2 209 rfl) rfl
theorem q572 : (Jvm.Cond.instanceMethod ({ cls := "java/lang/StringBuilder", name := "compareTo", desc := "(Ljava/lang/StringBuilder;)I" } : Jvm.MethodName)) ∈ lw_all := lw_g (lw_at lw_m2 210 rfl) rfl
theorem q573 : (Jvm.Cond.selects "java/lang/StringBuilder" ({ cls := "java/lang/StringBuilder", name := "compareTo", desc := "(Ljava/lang/StringBuilder;)I" } : Jvm.MethodName) ({ cls := "java/lang/StringBuilder", name := "compareTo", desc := "(Ljava/lang/StringBuilder;)I" } : Jvm.MethodName)) ∈ lw_all := lw_g (lw_at lw_m2 211 rfl) rfl
theorem q574 : (Jvm.Cond.code ({ cls := "java/lang/StringBuilder", name := "compareTo", desc := "(Ljava/lang/StringBuilder;)I" } : Jvm.MethodName) prog_44_method_5_code (2 : Nat) (Option.some Jvm.ClassFile.FieldType.int)) ∈ lw_all := lw_g (lw_at lw_m2 212 rfl) rfl
theorem q575 : (Jvm.Cond.methodLink "java/lang/StringBuilder" (13 : Nat) ({ cls := "java/lang/AbstractStringBuilder", name := "compareTo", desc := "(Ljava/lang/AbstractStringBuilder;)I" } : Jvm.MethodName)) ∈ lw_all := lw_g (lw_at lw_m2 213 rfl) rfl
theorem q576 : (Jvm.Cond.superclass "java/lang/StringBuilder" "java/lang/AbstractStringBuilder") ∈ lw_all := lw_g (lw_at lw_m2 214 rfl) rfl
theorem q582 : (Jvm.Cond.selects "java/lang/StringBuilder" ({ cls := "java/lang/AbstractStringBuilder", name := "isLatin1", desc := "()Z" } : Jvm.MethodName) ({ cls := "java/lang/AbstractStringBuilder", name := "isLatin1", desc := "()Z" } : Jvm.MethodName)) ∈ lw_all := lw_g (lw_at lw_m2 220 rfl) rfl
theorem q799 : (Jvm.Cond.selects "java/lang/StringBuilder" ({ cls := "java/lang/Object", name := "equals", desc := "(Ljava/lang/Object;)Z" } : Jvm.MethodName) ({ cls := "java/lang/Object", name := "equals", desc := "(Ljava/lang/Object;)Z" } : Jvm.MethodName)) ∈ lw_all := lw_g (lw_at lw_m3 197 rfl) rfl
theorem q1676 : (Jvm.Cond.instantiable "java/lang/StringBuilder" (4 : Nat)) ∈ lw_all := lw_g (lw_at lw_m7 114 rfl) rfl
theorem q1678 : (Jvm.Cond.instanceMethod ({ cls := "java/lang/StringBuilder", name := "<init>", desc := "()V" } : Jvm.MethodName)) ∈ lw_all := lw_g (lw_at lw_m7 116 rfl) rfl
theorem q1679 : (Jvm.Cond.code ({ cls := "java/lang/StringBuilder", name := "<init>", desc := "()V" } : Jvm.MethodName) prog_44_method_1_code (1 : Nat) (Option.none : Option Jvm.ClassFile.FieldType)) ∈ lw_all := lw_g (lw_at lw_m7 117 rfl) rfl
theorem q1680 : (Jvm.Cond.methodLink "java/lang/StringBuilder" (1 : Nat) ({ cls := "java/lang/AbstractStringBuilder", name := "<init>", desc := "(I)V" } : Jvm.MethodName)) ∈ lw_all := lw_g (lw_at lw_m7 118 rfl) rfl
theorem q1695 : (Jvm.Cond.lays "java/lang/StringBuilder" "java/lang/AbstractStringBuilder" "value" "[B") ∈ lw_all := lw_g (lw_at lw_m7 133 rfl) rfl
theorem q1697 : (Jvm.Cond.lays "java/lang/StringBuilder" "java/lang/AbstractStringBuilder" "coder" "B") ∈ lw_all := lw_g (lw_at lw_m7 135 rfl) rfl
theorem q1699 : (Jvm.Cond.lays "java/lang/StringBuilder" "java/lang/AbstractStringBuilder" "maybeLatin1" "Z") ∈ lw_all := lw_g (lw_at lw_m7 137 rfl) rfl
theorem q1701 : (Jvm.Cond.lays "java/lang/StringBuilder" "java/lang/AbstractStringBuilder" "count" "I") ∈ lw_all := lw_g (lw_at lw_m7 139 rfl) rfl
theorem q1706 : (Jvm.Cond.instanceMethod ({ cls := "java/lang/StringBuilder", name := "append", desc := "(Ljava/lang/String;)Ljava/lang/StringBuilder;" } : Jvm.MethodName)) ∈ lw_all := lw_g (lw_at lw_m7 144 rfl) rfl
theorem q1707 : (Jvm.Cond.selects "java/lang/StringBuilder" ({ cls := "java/lang/StringBuilder", name := "append", desc := "(Ljava/lang/String;)Ljava/lang/StringBuilder;" } : Jvm.MethodName) ({ cls := "java/lang/StringBuilder", name := "append", desc := "(Ljava/lang/String;)Ljava/lang/StringBuilder;" } : Jvm.MethodName)) ∈ lw_all := lw_g (lw_at lw_m7 145 rfl) rfl
theorem q1708 : (Jvm.Cond.code ({ cls := "java/lang/StringBuilder", name := "append", desc := "(Ljava/lang/String;)Ljava/lang/StringBuilder;" } : Jvm.MethodName) prog_44_method_7_code (2 : Nat) (Option.some (Jvm.ClassFile.FieldType.object "java/lang/StringBuilder"))) ∈ lw_all := lw_g (lw_at lw_m7 146 rfl) rfl
theorem q1709 : (Jvm.Cond.methodLink "java/lang/StringBuilder" (29 : Nat) ({ cls := "java/lang/AbstractStringBuilder", name := "append", desc := "(Ljava/lang/String;)Ljava/lang/AbstractStringBuilder;" } : Jvm.MethodName)) ∈ lw_all := lw_g (lw_at lw_m7 147 rfl) rfl
theorem q1787 : (Jvm.Cond.instanceMethod ({ cls := "java/lang/StringBuilder", name := "append", desc := "(I)Ljava/lang/StringBuilder;" } : Jvm.MethodName)) ∈ lw_all := lw_g (lw_at lw_m7 225 rfl) rfl
theorem q1788 : (Jvm.Cond.selects "java/lang/StringBuilder" ({ cls := "java/lang/StringBuilder", name := "append", desc := "(I)Ljava/lang/StringBuilder;" } : Jvm.MethodName) ({ cls := "java/lang/StringBuilder", name := "append", desc := "(I)Ljava/lang/StringBuilder;" } : Jvm.MethodName)) ∈ lw_all := lw_g (lw_at lw_m7 226 rfl) rfl
theorem q1789 : (Jvm.Cond.code ({ cls := "java/lang/StringBuilder", name := "append", desc := "(I)Ljava/lang/StringBuilder;" } : Jvm.MethodName) prog_44_method_15_code (2 : Nat) (Option.some (Jvm.ClassFile.FieldType.object "java/lang/StringBuilder"))) ∈ lw_all := lw_g (lw_at lw_m7 227 rfl) rfl
theorem q1790 : (Jvm.Cond.methodLink "java/lang/StringBuilder" (53 : Nat) ({ cls := "java/lang/AbstractStringBuilder", name := "append", desc := "(I)Ljava/lang/AbstractStringBuilder;" } : Jvm.MethodName)) ∈ lw_all := lw_g (lw_at lw_m7 228 rfl) rfl
theorem q1812 : (Jvm.Cond.instanceMethod ({ cls := "java/lang/StringBuilder", name := "toString", desc := "()Ljava/lang/String;" } : Jvm.MethodName)) ∈ lw_all := lw_g (lw_at lw_m8 10 rfl) rfl
theorem q1813 : (Jvm.Cond.selects "java/lang/StringBuilder" ({ cls := "java/lang/StringBuilder", name := "toString", desc := "()Ljava/lang/String;" } : Jvm.MethodName) ({ cls := "java/lang/StringBuilder", name := "toString", desc := "()Ljava/lang/String;" } : Jvm.MethodName)) ∈ lw_all := lw_g (lw_at lw_m8 11 rfl) rfl
theorem q1814 : (Jvm.Cond.code ({ cls := "java/lang/StringBuilder", name := "toString", desc := "()Ljava/lang/String;" } : Jvm.MethodName) prog_44_method_42_code (1 : Nat) (Option.some (Jvm.ClassFile.FieldType.object "java/lang/String"))) ∈ lw_all := lw_g (lw_at lw_m8 12 rfl) rfl
theorem q1815 : (Jvm.Cond.classLink "java/lang/StringBuilder" (18 : Nat) "java/lang/String") ∈ lw_all := lw_g (lw_at lw_m8 13 rfl) rfl
theorem q1817 : (Jvm.Cond.methodLink "java/lang/StringBuilder" (137 : Nat) ({ cls := "java/lang/String", name := "<init>", desc := "(Ljava/lang/StringBuilder;)V" } : Jvm.MethodName)) ∈ lw_all := lw_g (lw_at lw_m8 15 rfl) rfl
theorem q1827 : (Jvm.Cond.selects "java/lang/StringBuilder" ({ cls := "java/lang/AbstractStringBuilder", name := "getValue", desc := "()[B" } : Jvm.MethodName) ({ cls := "java/lang/AbstractStringBuilder", name := "getValue", desc := "()[B" } : Jvm.MethodName)) ∈ lw_all := lw_g (lw_at lw_m8 25 rfl) rfl
theorem q1832 : (Jvm.Cond.selects "java/lang/StringBuilder" ({ cls := "java/lang/AbstractStringBuilder", name := "length", desc := "()I" } : Jvm.MethodName) ({ cls := "java/lang/StringBuilder", name := "length", desc := "()I" } : Jvm.MethodName)) ∈ lw_all := lw_g (lw_at lw_m8 30 rfl) rfl
theorem q1833 : (Jvm.Cond.instanceMethod ({ cls := "java/lang/StringBuilder", name := "length", desc := "()I" } : Jvm.MethodName)) ∈ lw_all := lw_g (lw_at lw_m8 31 rfl) rfl
theorem q1834 : (Jvm.Cond.code ({ cls := "java/lang/StringBuilder", name := "length", desc := "()I" } : Jvm.MethodName) prog_44_method_93_code (1 : Nat) (Option.some Jvm.ClassFile.FieldType.int)) ∈ lw_all := lw_g (lw_at lw_m8 32 rfl) rfl
theorem q1835 : (Jvm.Cond.methodLink "java/lang/StringBuilder" (343 : Nat) ({ cls := "java/lang/AbstractStringBuilder", name := "length", desc := "()I" } : Jvm.MethodName)) ∈ lw_all := lw_g (lw_at lw_m8 33 rfl) rfl
theorem q3494 : (Jvm.Cond.castable "java/lang/StringBuilder" "java/lang/Object") ∈ lw_tbl := lw_at lw_m15 12 rfl
theorem in_J42 : ∀ w ∈ wsJ420, w ∈ lw_all := lw_in wsJ420 [1695, 1697, 1699, 1701] (by decide +kernel) (by decide +kernel)

/-! java/lang/ArithmeticException -/
set_option maxRecDepth 100000
def RJ43 : String := "java/lang/ArithmeticException"
def TJ43 : u_T := fun k => match k with
  | 0 => ("java/lang/Throwable", "backtrace", "Ljava/lang/Object;", false)
  | 1 => ("java/lang/Throwable", "detailMessage", "Ljava/lang/String;", false)
  | 2 => ("java/lang/Throwable", "cause", "Ljava/lang/Throwable;", false)
  | 3 => ("java/lang/Throwable", "stackTrace", "[Ljava/lang/StackTraceElement;", false)
  | 4 => ("java/lang/Throwable", "depth", "I", false)
  | _ => ("java/lang/Throwable", "suppressedExceptions", "Ljava/util/List;", false)
def tyJ43 : Nat → FieldType := fun k => match k with
  | 0 => .object "java/lang/Object"
  | 1 => .object "java/lang/String"
  | 2 => .object "java/lang/Throwable"
  | 3 => .array (.object "java/lang/StackTraceElement")
  | 4 => .int
  | _ => .object "java/util/List"
abbrev wsJ430 : List Cond := u_ws RJ43 TJ43 6
theorem nmJ43 : ∀ a, a < 6 → ∀ b, b < 6 → a ≠ b → (TJ43 a).2.1 ≠ (TJ43 b).2.1 := by decide +kernel
theorem tyJ43_ok : ∀ k, k < 6 → parseFieldDescriptor (TJ43 k).2.2.1 = some (tyJ43 k) := by decide +kernel
theorem q189 : (Jvm.Cond.initialized "java/lang/ArithmeticException") ∈ lw_all := lw_g (lw_at lw_m1 67 rfl) rfl
theorem q358 : (Jvm.Cond.selects "java/lang/ArithmeticException" ({ cls := "java/lang/Object", name := "getClass", desc := "()Ljava/lang/Class;" } : Jvm.MethodName) ({ cls := "java/lang/Object", name := "getClass", desc := "()Ljava/lang/Class;" } : Jvm.MethodName)) ∈ lw_all := lw_g (lw_at lw_m1 236 rfl) rfl
theorem q781 : (Jvm.Cond.selects "java/lang/ArithmeticException" ({ cls := "java/lang/Object", name := "equals", desc := "(Ljava/lang/Object;)Z" } : Jvm.MethodName) ({ cls := "java/lang/Object", name := "equals", desc := "(Ljava/lang/Object;)Z" } : Jvm.MethodName)) ∈ lw_all := lw_g (lw_at lw_m3 179 rfl) rfl
theorem q982 : (Jvm.Cond.selects "java/lang/ArithmeticException" ({ cls := "java/lang/Throwable", name := "fillInStackTrace", desc := "()Ljava/lang/Throwable;" } : Jvm.MethodName) ({ cls := "java/lang/Throwable", name := "fillInStackTrace", desc := "()Ljava/lang/Throwable;" } : Jvm.MethodName)) ∈ lw_all := lw_g (lw_at lw_m4 140 rfl) rfl
theorem q2854 : (Jvm.Cond.instantiable "java/lang/ArithmeticException" (6 : Nat)) ∈ lw_all := lw_g (lw_at lw_m12 92 rfl) rfl
theorem q2855 : (Jvm.Cond.instanceMethod ({ cls := "java/lang/ArithmeticException", name := "<init>", desc := "(Ljava/lang/String;)V" } : Jvm.MethodName)) ∈ lw_all := lw_g (lw_at lw_m12 93 rfl) rfl
theorem q2856 : (Jvm.Cond.code ({ cls := "java/lang/ArithmeticException", name := "<init>", desc := "(Ljava/lang/String;)V" } : Jvm.MethodName) prog_25_method_2_code (2 : Nat) (Option.none : Option Jvm.ClassFile.FieldType)) ∈ lw_all := lw_g (lw_at lw_m12 94 rfl) rfl
theorem q2857 : (Jvm.Cond.methodLink "java/lang/ArithmeticException" (7 : Nat) ({ cls := "java/lang/RuntimeException", name := "<init>", desc := "(Ljava/lang/String;)V" } : Jvm.MethodName)) ∈ lw_all := lw_g (lw_at lw_m12 95 rfl) rfl
theorem q2858 : (Jvm.Cond.lays "java/lang/ArithmeticException" "java/lang/Throwable" "backtrace" "Ljava/lang/Object;") ∈ lw_all := lw_g (lw_at lw_m12 96 rfl) rfl
theorem q2859 : (Jvm.Cond.lays "java/lang/ArithmeticException" "java/lang/Throwable" "detailMessage" "Ljava/lang/String;") ∈ lw_all := lw_g (lw_at lw_m12 97 rfl) rfl
theorem q2860 : (Jvm.Cond.lays "java/lang/ArithmeticException" "java/lang/Throwable" "cause" "Ljava/lang/Throwable;") ∈ lw_all := lw_g (lw_at lw_m12 98 rfl) rfl
theorem q2861 : (Jvm.Cond.lays "java/lang/ArithmeticException" "java/lang/Throwable" "stackTrace" "[Ljava/lang/StackTraceElement;") ∈ lw_all := lw_g (lw_at lw_m12 99 rfl) rfl
theorem q2862 : (Jvm.Cond.lays "java/lang/ArithmeticException" "java/lang/Throwable" "depth" "I") ∈ lw_all := lw_g (lw_at lw_m12 100 rfl) rfl
theorem q2863 : (Jvm.Cond.lays "java/lang/ArithmeticException" "java/lang/Throwable" "suppressedExceptions" "Ljava/util/List;") ∈ lw_all := lw_g (lw_at lw_m12 101 rfl) rfl
theorem q2864 : (Jvm.Cond.superclass "java/lang/ArithmeticException" "java/lang/RuntimeException") ∈ lw_all := lw_g (lw_at lw_m12 102 rfl) rfl
theorem q2865 : (Jvm.Cond.castable "java/lang/ArithmeticException" "java/lang/ArithmeticException") ∈ lw_tbl := lw_at lw_m12 103 rfl
theorem q2866 : (Jvm.Cond.selects "java/lang/ArithmeticException" ({ cls := "java/lang/Throwable", name := "fillInStackTrace", desc := "(I)Ljava/lang/Throwable;" } : Jvm.MethodName) ({ cls := "java/lang/Throwable", name := "fillInStackTrace", desc := "(I)Ljava/lang/Throwable;" } : Jvm.MethodName)) ∈ lw_all := lw_g (lw_at lw_m12 104 rfl) rfl
theorem q2874 : (Jvm.Cond.instanceMethod ({ cls := "java/lang/ArithmeticException", name := "<init>", desc := "()V" } : Jvm.MethodName)) ∈ lw_all := lw_g (lw_at lw_m12 112 rfl) rfl
theorem q2875 : (Jvm.Cond.code ({ cls := "java/lang/ArithmeticException", name := "<init>", desc := "()V" } : Jvm.MethodName) prog_25_method_1_code (1 : Nat) (Option.none : Option Jvm.ClassFile.FieldType)) ∈ lw_all := lw_g (lw_at lw_m12 113 rfl) rfl
theorem q2876 : (Jvm.Cond.methodLink "java/lang/ArithmeticException" (1 : Nat) ({ cls := "java/lang/RuntimeException", name := "<init>", desc := "()V" } : Jvm.MethodName)) ∈ lw_all := lw_g (lw_at lw_m12 114 rfl) rfl
theorem q3501 : (Jvm.Cond.castable "java/lang/ArithmeticException" "java/lang/Object") ∈ lw_tbl := lw_at lw_m15 19 rfl
theorem in_J43 : ∀ w ∈ wsJ430, w ∈ lw_all := lw_in wsJ430 [2858, 2859, 2860, 2861, 2862, 2863] (by decide +kernel) (by decide +kernel)

/-! java/lang/Object -/
set_option maxRecDepth 100000
def RJ44 : String := "java/lang/Object"
abbrev cJ44_init : ByteArray := object_method_1_code
def yJ44_init : MethodName := ⟨RJ44, "<init>", "()V"⟩
theorem dJ44_init_0 : decode cJ44_init 0 = .ok (.return_, 1) := by decide +kernel
abbrev cJ44_equals : ByteArray := object_method_4_code
def yJ44_equals : MethodName := ⟨RJ44, "equals", "(Ljava/lang/Object;)Z"⟩
def dkwJ44_equals_0 : List UInt8 := [42, 43, 166, 0, 7, 4, 167, 0, 4, 3, 172]
abbrev dktJ44_equals_0 : List UInt8 := dkwJ44_equals_0 ++ []
theorem dksJ44_equals_0 : cJ44_equals.data.toList.drop 0 = dktJ44_equals_0 := by decide +kernel
theorem dJ44_equals_0 : decode cJ44_equals 0 = .ok (.aload_n 0, 1) := dk_42 (dk_at dksJ44_equals_0 0 rfl rfl)
theorem dJ44_equals_1 : decode cJ44_equals 1 = .ok (.aload_n 1, 1) := dk_43 (dk_at dksJ44_equals_0 1 rfl rfl)
theorem dJ44_equals_2 : decode cJ44_equals 2 = .ok (.if_acmp .ne 7, 3) := dk_166 0 7 (dk_at dksJ44_equals_0 2 rfl rfl)
theorem dJ44_equals_5 : decode cJ44_equals 5 = .ok (.iconst 1, 1) := dk_4 (dk_at dksJ44_equals_0 5 rfl rfl)
theorem dJ44_equals_6 : decode cJ44_equals 6 = .ok (.goto 4, 3) := dk_167 0 4 (dk_at dksJ44_equals_0 6 rfl rfl)
theorem dJ44_equals_9 : decode cJ44_equals 9 = .ok (.iconst 0, 1) := dk_3 (dk_at dksJ44_equals_0 9 rfl rfl)
theorem dJ44_equals_10 : decode cJ44_equals 10 = .ok (.ireturn, 1) := dk_172 (dk_at dksJ44_equals_0 10 rfl rfl)
theorem q196 : (Jvm.Cond.instanceMethod ({ cls := "java/lang/Object", name := "<init>", desc := "()V" } : Jvm.MethodName)) ∈ lw_all := lw_g (lw_at lw_m1 74 rfl) rfl
theorem q197 : (Jvm.Cond.code ({ cls := "java/lang/Object", name := "<init>", desc := "()V" } : Jvm.MethodName) object_method_1_code (1 : Nat) (Option.none : Option Jvm.ClassFile.FieldType)) ∈ lw_all := lw_g (lw_at lw_m1 75 rfl) rfl
theorem q336 : (Jvm.Cond.instanceMethod ({ cls := "java/lang/Object", name := "getClass", desc := "()Ljava/lang/Class;" } : Jvm.MethodName)) ∈ lw_all := lw_g (lw_at lw_m1 214 rfl) rfl
theorem q337 : (Jvm.Cond.sameMethod "java/lang/Object" "java/lang/Object" "getClass" "()Ljava/lang/Class;") ∈ lw_all := lw_g (lw_at lw_m1 215 rfl) rfl
theorem q380 : (Jvm.Cond.native ({ cls := "java/lang/Object", name := "getClass", desc := "()Ljava/lang/Class;" } : Jvm.MethodName)) ∈ lw_all := lw_g (lw_at lw_m2 18 rfl) rfl
theorem q753 : (Jvm.Cond.declares ({ cls := "java/lang/Object", name := "equals", desc := "(Ljava/lang/Object;)Z" } : Jvm.MethodName)) ∈ lw_tbl := lw_at lw_m3 151 rfl
theorem q755 : (Jvm.Cond.instanceMethod ({ cls := "java/lang/Object", name := "equals", desc := "(Ljava/lang/Object;)Z" } : Jvm.MethodName)) ∈ lw_all := lw_g (lw_at lw_m3 153 rfl) rfl
theorem q756 : (Jvm.Cond.sameMethod "java/lang/Object" "java/lang/Object" "equals" "(Ljava/lang/Object;)Z") ∈ lw_all := lw_g (lw_at lw_m3 154 rfl) rfl
theorem q801 : (Jvm.Cond.code ({ cls := "java/lang/Object", name := "equals", desc := "(Ljava/lang/Object;)Z" } : Jvm.MethodName) object_method_4_code (2 : Nat) (Option.some Jvm.ClassFile.FieldType.boolean)) ∈ lw_all := lw_g (lw_at lw_m3 199 rfl) rfl
theorem q1532 : (Jvm.Cond.declares ({ cls := "java/lang/Object", name := "getClass", desc := "()Ljava/lang/Class;" } : Jvm.MethodName)) ∈ lw_tbl := lw_at lw_m6 210 rfl
theorem q1534 : (Jvm.Cond.publicMethod ({ cls := "java/lang/Object", name := "getClass", desc := "()Ljava/lang/Class;" } : Jvm.MethodName)) ∈ lw_tbl := lw_at lw_m6 212 rfl
theorem q1731 : (Jvm.Cond.native ({ cls := "java/lang/Object", name := "clone", desc := "()Ljava/lang/Object;" } : Jvm.MethodName)) ∈ lw_all := lw_g (lw_at lw_m7 169 rfl) rfl
theorem q1732 : (Jvm.Cond.instanceMethod ({ cls := "java/lang/Object", name := "clone", desc := "()Ljava/lang/Object;" } : Jvm.MethodName)) ∈ lw_all := lw_g (lw_at lw_m7 170 rfl) rfl
theorem q3455 : (Jvm.Cond.sameMethod "java/lang/Object" "java/lang/Object" "clone" "()Ljava/lang/Object;") ∈ lw_all := lw_g (lw_at lw_m14 213 rfl) rfl
theorem q3456 : (Jvm.Cond.initialized "java/lang/Object") ∈ lw_all := lw_g (lw_at lw_m14 214 rfl) rfl
theorem q3503 : (Jvm.Cond.noSuperclass "java/lang/Object") ∈ lw_all := lw_g (lw_at lw_m15 21 rfl) rfl

/-! java/lang/Number -/
set_option maxRecDepth 100000
def RJ5 : String := "java/lang/Number"
theorem q130 : (Jvm.Cond.initialized "java/lang/Number") ∈ lw_all := lw_g (lw_at lw_m1 8 rfl) rfl
theorem q281 : (Jvm.Cond.instanceMethod ({ cls := "java/lang/Number", name := "<init>", desc := "()V" } : Jvm.MethodName)) ∈ lw_all := lw_g (lw_at lw_m1 159 rfl) rfl
theorem q282 : (Jvm.Cond.code ({ cls := "java/lang/Number", name := "<init>", desc := "()V" } : Jvm.MethodName) prog_41_method_1_code (1 : Nat) (Option.none : Option Jvm.ClassFile.FieldType)) ∈ lw_all := lw_g (lw_at lw_m1 160 rfl) rfl
theorem q283 : (Jvm.Cond.methodLink "java/lang/Number" (1 : Nat) ({ cls := "java/lang/Object", name := "<init>", desc := "()V" } : Jvm.MethodName)) ∈ lw_all := lw_g (lw_at lw_m1 161 rfl) rfl

/-! java/lang/Integer -/
set_option maxRecDepth 100000
def RJ6 : String := "java/lang/Integer"
def TJ6 : u_T := fun k => match k with
  | _ => ("java/lang/Integer", "value", "I", true)
def tyJ6 : Nat → FieldType := fun k => match k with
  | _ => .int
abbrev wsJ60 : List Cond := u_ws RJ6 TJ6 1
theorem nmJ6 : ∀ a, a < 1 → ∀ b, b < 1 → a ≠ b → (TJ6 a).2.1 ≠ (TJ6 b).2.1 := by decide +kernel
theorem tyJ6_ok : ∀ k, k < 1 → parseFieldDescriptor (TJ6 k).2.2.1 = some (tyJ6 k) := by decide +kernel
abbrev cJ6_valueOf : ByteArray := prog_36_method_22_code
def yJ6_valueOf : MethodName := ⟨RJ6, "valueOf", "(I)Ljava/lang/Integer;"⟩
def dkwJ6_valueOf_1 : List UInt8 := [187, 0, 1, 89, 26, 183, 0, 199, 176]
abbrev dktJ6_valueOf_1 : List UInt8 := dkwJ6_valueOf_1 ++ []
def dkwJ6_valueOf_0 : List UInt8 := [26, 16, 128, 161, 0, 20, 26, 178, 0, 191, 163, 0, 13, 178, 0, 195, 26, 17, 0, 128, 96, 50, 176]
abbrev dktJ6_valueOf_0 : List UInt8 := dkwJ6_valueOf_0 ++ dktJ6_valueOf_1
theorem dksJ6_valueOf_0 : cJ6_valueOf.data.toList.drop 0 = dktJ6_valueOf_0 := by decide +kernel
theorem dksJ6_valueOf_1 : cJ6_valueOf.data.toList.drop 23 = dktJ6_valueOf_1 := dk_seg dksJ6_valueOf_0 23 rfl rfl
theorem dJ6_valueOf_0 : decode cJ6_valueOf 0 = .ok (.iload_n 0, 1) := dk_26 (dk_at dksJ6_valueOf_0 0 rfl rfl)
theorem dJ6_valueOf_1 : decode cJ6_valueOf 1 = .ok (.bipush (-128), 2) := dk_16 128 (dk_at dksJ6_valueOf_0 1 rfl rfl)
theorem dJ6_valueOf_3 : decode cJ6_valueOf 3 = .ok (.if_icmp .lt 20, 3) := dk_161 0 20 (dk_at dksJ6_valueOf_0 3 rfl rfl)
theorem dJ6_valueOf_6 : decode cJ6_valueOf 6 = .ok (.iload_n 0, 1) := dk_26 (dk_at dksJ6_valueOf_0 6 rfl rfl)
theorem dJ6_valueOf_7 : decode cJ6_valueOf 7 = .ok (.getstatic 191, 3) := dk_178 0 191 (dk_at dksJ6_valueOf_0 7 rfl rfl)
theorem dJ6_valueOf_10 : decode cJ6_valueOf 10 = .ok (.if_icmp .gt 13, 3) := dk_163 0 13 (dk_at dksJ6_valueOf_0 10 rfl rfl)
theorem dJ6_valueOf_13 : decode cJ6_valueOf 13 = .ok (.getstatic 195, 3) := dk_178 0 195 (dk_at dksJ6_valueOf_0 13 rfl rfl)
theorem dJ6_valueOf_16 : decode cJ6_valueOf 16 = .ok (.iload_n 0, 1) := dk_26 (dk_at dksJ6_valueOf_0 16 rfl rfl)
theorem dJ6_valueOf_17 : decode cJ6_valueOf 17 = .ok (.sipush 128, 3) := dk_17 0 128 (dk_at dksJ6_valueOf_0 17 rfl rfl)
theorem dJ6_valueOf_20 : decode cJ6_valueOf 20 = .ok (.iadd, 1) := dk_96 (dk_at dksJ6_valueOf_0 20 rfl rfl)
theorem dJ6_valueOf_21 : decode cJ6_valueOf 21 = .ok (.aaload, 1) := dk_50 (dk_at dksJ6_valueOf_0 21 rfl rfl)
theorem dJ6_valueOf_22 : decode cJ6_valueOf 22 = .ok (.areturn, 1) := dk_176 (dk_at dksJ6_valueOf_0 22 rfl rfl)
theorem dJ6_valueOf_23 : decode cJ6_valueOf 23 = .ok (.new 1, 3) := dk_187 0 1 (dk_at dksJ6_valueOf_1 0 rfl rfl)
theorem dJ6_valueOf_26 : decode cJ6_valueOf 26 = .ok (.dup, 1) := dk_89 (dk_at dksJ6_valueOf_1 3 rfl rfl)
theorem dJ6_valueOf_27 : decode cJ6_valueOf 27 = .ok (.iload_n 0, 1) := dk_26 (dk_at dksJ6_valueOf_1 4 rfl rfl)
theorem dJ6_valueOf_28 : decode cJ6_valueOf 28 = .ok (.invokespecial 199, 3) := dk_183 0 199 (dk_at dksJ6_valueOf_1 5 rfl rfl)
theorem dJ6_valueOf_31 : decode cJ6_valueOf 31 = .ok (.areturn, 1) := dk_176 (dk_at dksJ6_valueOf_1 8 rfl rfl)
abbrev cJ6_compare : ByteArray := prog_36_method_40_code
def yJ6_compare : MethodName := ⟨RJ6, "compare", "(II)I"⟩
def dkwJ6_compare_0 : List UInt8 := [26, 27, 162, 0, 7, 2, 167, 0, 13, 26, 27, 160, 0, 7, 3, 167, 0, 4, 4, 172]
abbrev dktJ6_compare_0 : List UInt8 := dkwJ6_compare_0 ++ []
theorem dksJ6_compare_0 : cJ6_compare.data.toList.drop 0 = dktJ6_compare_0 := by decide +kernel
theorem dJ6_compare_0 : decode cJ6_compare 0 = .ok (.iload_n 0, 1) := dk_26 (dk_at dksJ6_compare_0 0 rfl rfl)
theorem dJ6_compare_1 : decode cJ6_compare 1 = .ok (.iload_n 1, 1) := dk_27 (dk_at dksJ6_compare_0 1 rfl rfl)
theorem dJ6_compare_2 : decode cJ6_compare 2 = .ok (.if_icmp .ge 7, 3) := dk_162 0 7 (dk_at dksJ6_compare_0 2 rfl rfl)
theorem dJ6_compare_5 : decode cJ6_compare 5 = .ok (.iconst (-1), 1) := dk_2 (dk_at dksJ6_compare_0 5 rfl rfl)
theorem dJ6_compare_6 : decode cJ6_compare 6 = .ok (.goto 13, 3) := dk_167 0 13 (dk_at dksJ6_compare_0 6 rfl rfl)
theorem dJ6_compare_9 : decode cJ6_compare 9 = .ok (.iload_n 0, 1) := dk_26 (dk_at dksJ6_compare_0 9 rfl rfl)
theorem dJ6_compare_10 : decode cJ6_compare 10 = .ok (.iload_n 1, 1) := dk_27 (dk_at dksJ6_compare_0 10 rfl rfl)
theorem dJ6_compare_11 : decode cJ6_compare 11 = .ok (.if_icmp .ne 7, 3) := dk_160 0 7 (dk_at dksJ6_compare_0 11 rfl rfl)
theorem dJ6_compare_14 : decode cJ6_compare 14 = .ok (.iconst 0, 1) := dk_3 (dk_at dksJ6_compare_0 14 rfl rfl)
theorem dJ6_compare_15 : decode cJ6_compare 15 = .ok (.goto 4, 3) := dk_167 0 4 (dk_at dksJ6_compare_0 15 rfl rfl)
theorem dJ6_compare_18 : decode cJ6_compare 18 = .ok (.iconst 1, 1) := dk_4 (dk_at dksJ6_compare_0 18 rfl rfl)
theorem dJ6_compare_19 : decode cJ6_compare 19 = .ok (.ireturn, 1) := dk_172 (dk_at dksJ6_compare_0 19 rfl rfl)
abbrev cJ6_compareTo : ByteArray := prog_36_method_63_code
def yJ6_compareTo : MethodName := ⟨RJ6, "compareTo", "(Ljava/lang/Object;)I"⟩
def dkwJ6_compareTo_0 : List UInt8 := [42, 43, 192, 0, 1, 182, 1, 28, 172]
abbrev dktJ6_compareTo_0 : List UInt8 := dkwJ6_compareTo_0 ++ []
theorem dksJ6_compareTo_0 : cJ6_compareTo.data.toList.drop 0 = dktJ6_compareTo_0 := by decide +kernel
theorem dJ6_compareTo_0 : decode cJ6_compareTo 0 = .ok (.aload_n 0, 1) := dk_42 (dk_at dksJ6_compareTo_0 0 rfl rfl)
theorem dJ6_compareTo_1 : decode cJ6_compareTo 1 = .ok (.aload_n 1, 1) := dk_43 (dk_at dksJ6_compareTo_0 1 rfl rfl)
theorem dJ6_compareTo_2 : decode cJ6_compareTo 2 = .ok (.checkcast 1, 3) := dk_192 0 1 (dk_at dksJ6_compareTo_0 2 rfl rfl)
theorem dJ6_compareTo_5 : decode cJ6_compareTo 5 = .ok (.invokevirtual 284, 3) := dk_182 1 28 (dk_at dksJ6_compareTo_0 5 rfl rfl)
theorem dJ6_compareTo_8 : decode cJ6_compareTo 8 = .ok (.ireturn, 1) := dk_172 (dk_at dksJ6_compareTo_0 8 rfl rfl)
abbrev cJ6_compareTo_2 : ByteArray := prog_36_method_39_code
def yJ6_compareTo_2 : MethodName := ⟨RJ6, "compareTo", "(Ljava/lang/Integer;)I"⟩
def dkwJ6_compareTo_2_0 : List UInt8 := [42, 180, 0, 205, 43, 180, 0, 205, 184, 1, 3, 172]
abbrev dktJ6_compareTo_2_0 : List UInt8 := dkwJ6_compareTo_2_0 ++ []
theorem dksJ6_compareTo_2_0 : cJ6_compareTo_2.data.toList.drop 0 = dktJ6_compareTo_2_0 := by decide +kernel
theorem dJ6_compareTo_2_0 : decode cJ6_compareTo_2 0 = .ok (.aload_n 0, 1) := dk_42 (dk_at dksJ6_compareTo_2_0 0 rfl rfl)
theorem dJ6_compareTo_2_1 : decode cJ6_compareTo_2 1 = .ok (.getfield 205, 3) := dk_180 0 205 (dk_at dksJ6_compareTo_2_0 1 rfl rfl)
theorem dJ6_compareTo_2_4 : decode cJ6_compareTo_2 4 = .ok (.aload_n 1, 1) := dk_43 (dk_at dksJ6_compareTo_2_0 4 rfl rfl)
theorem dJ6_compareTo_2_5 : decode cJ6_compareTo_2 5 = .ok (.getfield 205, 3) := dk_180 0 205 (dk_at dksJ6_compareTo_2_0 5 rfl rfl)
theorem dJ6_compareTo_2_8 : decode cJ6_compareTo_2 8 = .ok (.invokestatic 259, 3) := dk_184 1 3 (dk_at dksJ6_compareTo_2_0 8 rfl rfl)
theorem dJ6_compareTo_2_11 : decode cJ6_compareTo_2 11 = .ok (.ireturn, 1) := dk_172 (dk_at dksJ6_compareTo_2_0 11 rfl rfl)
abbrev cJ6_numberOfLeadingZeros : ByteArray := prog_36_method_47_code
def yJ6_numberOfLeadingZeros : MethodName := ⟨RJ6, "numberOfLeadingZeros", "(I)I"⟩
def dkwJ6_numberOfLeadingZeros_3 : List UInt8 := [5, 124, 59, 27, 26, 4, 124, 100, 172]
abbrev dktJ6_numberOfLeadingZeros_3 : List UInt8 := dkwJ6_numberOfLeadingZeros_3 ++ []
def dkwJ6_numberOfLeadingZeros_2 : List UInt8 := [124, 59, 26, 16, 16, 161, 0, 10, 132, 1, 252, 26, 7, 124, 59, 26, 7, 161, 0, 10, 132, 1, 254, 26]
abbrev dktJ6_numberOfLeadingZeros_2 : List UInt8 := dkwJ6_numberOfLeadingZeros_2 ++ dktJ6_numberOfLeadingZeros_3
def dkwJ6_numberOfLeadingZeros_1 : List UInt8 := [161, 0, 11, 132, 1, 240, 26, 16, 16, 124, 59, 26, 17, 1, 0, 161, 0, 11, 132, 1, 248, 26, 16, 8]
abbrev dktJ6_numberOfLeadingZeros_1 : List UInt8 := dkwJ6_numberOfLeadingZeros_1 ++ dktJ6_numberOfLeadingZeros_2
def dkwJ6_numberOfLeadingZeros_0 : List UInt8 := [26, 157, 0, 14, 26, 154, 0, 8, 16, 32, 167, 0, 4, 3, 172, 16, 31, 60, 26, 19, 1, 8]
abbrev dktJ6_numberOfLeadingZeros_0 : List UInt8 := dkwJ6_numberOfLeadingZeros_0 ++ dktJ6_numberOfLeadingZeros_1
theorem dksJ6_numberOfLeadingZeros_0 : cJ6_numberOfLeadingZeros.data.toList.drop 0 = dktJ6_numberOfLeadingZeros_0 := by decide +kernel
theorem dksJ6_numberOfLeadingZeros_1 : cJ6_numberOfLeadingZeros.data.toList.drop 22 = dktJ6_numberOfLeadingZeros_1 := dk_seg dksJ6_numberOfLeadingZeros_0 22 rfl rfl
theorem dksJ6_numberOfLeadingZeros_2 : cJ6_numberOfLeadingZeros.data.toList.drop 46 = dktJ6_numberOfLeadingZeros_2 := dk_seg dksJ6_numberOfLeadingZeros_1 24 rfl rfl
theorem dksJ6_numberOfLeadingZeros_3 : cJ6_numberOfLeadingZeros.data.toList.drop 70 = dktJ6_numberOfLeadingZeros_3 := dk_seg dksJ6_numberOfLeadingZeros_2 24 rfl rfl
theorem dJ6_numberOfLeadingZeros_0 : decode cJ6_numberOfLeadingZeros 0 = .ok (.iload_n 0, 1) := dk_26 (dk_at dksJ6_numberOfLeadingZeros_0 0 rfl rfl)
theorem dJ6_numberOfLeadingZeros_1 : decode cJ6_numberOfLeadingZeros 1 = .ok (.ifCond .gt 14, 3) := dk_157 0 14 (dk_at dksJ6_numberOfLeadingZeros_0 1 rfl rfl)
theorem dJ6_numberOfLeadingZeros_4 : decode cJ6_numberOfLeadingZeros 4 = .ok (.iload_n 0, 1) := dk_26 (dk_at dksJ6_numberOfLeadingZeros_0 4 rfl rfl)
theorem dJ6_numberOfLeadingZeros_5 : decode cJ6_numberOfLeadingZeros 5 = .ok (.ifCond .ne 8, 3) := dk_154 0 8 (dk_at dksJ6_numberOfLeadingZeros_0 5 rfl rfl)
theorem dJ6_numberOfLeadingZeros_8 : decode cJ6_numberOfLeadingZeros 8 = .ok (.bipush 32, 2) := dk_16 32 (dk_at dksJ6_numberOfLeadingZeros_0 8 rfl rfl)
theorem dJ6_numberOfLeadingZeros_10 : decode cJ6_numberOfLeadingZeros 10 = .ok (.goto 4, 3) := dk_167 0 4 (dk_at dksJ6_numberOfLeadingZeros_0 10 rfl rfl)
theorem dJ6_numberOfLeadingZeros_13 : decode cJ6_numberOfLeadingZeros 13 = .ok (.iconst 0, 1) := dk_3 (dk_at dksJ6_numberOfLeadingZeros_0 13 rfl rfl)
theorem dJ6_numberOfLeadingZeros_14 : decode cJ6_numberOfLeadingZeros 14 = .ok (.ireturn, 1) := dk_172 (dk_at dksJ6_numberOfLeadingZeros_0 14 rfl rfl)
theorem dJ6_numberOfLeadingZeros_15 : decode cJ6_numberOfLeadingZeros 15 = .ok (.bipush 31, 2) := dk_16 31 (dk_at dksJ6_numberOfLeadingZeros_0 15 rfl rfl)
theorem dJ6_numberOfLeadingZeros_17 : decode cJ6_numberOfLeadingZeros 17 = .ok (.istore_n 1, 1) := dk_60 (dk_at dksJ6_numberOfLeadingZeros_0 17 rfl rfl)
theorem dJ6_numberOfLeadingZeros_18 : decode cJ6_numberOfLeadingZeros 18 = .ok (.iload_n 0, 1) := dk_26 (dk_at dksJ6_numberOfLeadingZeros_0 18 rfl rfl)
theorem dJ6_numberOfLeadingZeros_19 : decode cJ6_numberOfLeadingZeros 19 = .ok (.ldc_w 264, 3) := dk_19 1 8 (dk_at dksJ6_numberOfLeadingZeros_0 19 rfl rfl)
theorem dJ6_numberOfLeadingZeros_22 : decode cJ6_numberOfLeadingZeros 22 = .ok (.if_icmp .lt 11, 3) := dk_161 0 11 (dk_at dksJ6_numberOfLeadingZeros_1 0 rfl rfl)
theorem dJ6_numberOfLeadingZeros_25 : decode cJ6_numberOfLeadingZeros 25 = .ok (.iinc 1 (-16), 3) := dk_132 1 240 (dk_at dksJ6_numberOfLeadingZeros_1 3 rfl rfl)
theorem dJ6_numberOfLeadingZeros_28 : decode cJ6_numberOfLeadingZeros 28 = .ok (.iload_n 0, 1) := dk_26 (dk_at dksJ6_numberOfLeadingZeros_1 6 rfl rfl)
theorem dJ6_numberOfLeadingZeros_29 : decode cJ6_numberOfLeadingZeros 29 = .ok (.bipush 16, 2) := dk_16 16 (dk_at dksJ6_numberOfLeadingZeros_1 7 rfl rfl)
theorem dJ6_numberOfLeadingZeros_31 : decode cJ6_numberOfLeadingZeros 31 = .ok (.iushr, 1) := dk_124 (dk_at dksJ6_numberOfLeadingZeros_1 9 rfl rfl)
theorem dJ6_numberOfLeadingZeros_32 : decode cJ6_numberOfLeadingZeros 32 = .ok (.istore_n 0, 1) := dk_59 (dk_at dksJ6_numberOfLeadingZeros_1 10 rfl rfl)
theorem dJ6_numberOfLeadingZeros_33 : decode cJ6_numberOfLeadingZeros 33 = .ok (.iload_n 0, 1) := dk_26 (dk_at dksJ6_numberOfLeadingZeros_1 11 rfl rfl)
theorem dJ6_numberOfLeadingZeros_34 : decode cJ6_numberOfLeadingZeros 34 = .ok (.sipush 256, 3) := dk_17 1 0 (dk_at dksJ6_numberOfLeadingZeros_1 12 rfl rfl)
theorem dJ6_numberOfLeadingZeros_37 : decode cJ6_numberOfLeadingZeros 37 = .ok (.if_icmp .lt 11, 3) := dk_161 0 11 (dk_at dksJ6_numberOfLeadingZeros_1 15 rfl rfl)
theorem dJ6_numberOfLeadingZeros_40 : decode cJ6_numberOfLeadingZeros 40 = .ok (.iinc 1 (-8), 3) := dk_132 1 248 (dk_at dksJ6_numberOfLeadingZeros_1 18 rfl rfl)
theorem dJ6_numberOfLeadingZeros_43 : decode cJ6_numberOfLeadingZeros 43 = .ok (.iload_n 0, 1) := dk_26 (dk_at dksJ6_numberOfLeadingZeros_1 21 rfl rfl)
theorem dJ6_numberOfLeadingZeros_44 : decode cJ6_numberOfLeadingZeros 44 = .ok (.bipush 8, 2) := dk_16 8 (dk_at dksJ6_numberOfLeadingZeros_1 22 rfl rfl)
theorem dJ6_numberOfLeadingZeros_46 : decode cJ6_numberOfLeadingZeros 46 = .ok (.iushr, 1) := dk_124 (dk_at dksJ6_numberOfLeadingZeros_2 0 rfl rfl)
theorem dJ6_numberOfLeadingZeros_47 : decode cJ6_numberOfLeadingZeros 47 = .ok (.istore_n 0, 1) := dk_59 (dk_at dksJ6_numberOfLeadingZeros_2 1 rfl rfl)
theorem dJ6_numberOfLeadingZeros_48 : decode cJ6_numberOfLeadingZeros 48 = .ok (.iload_n 0, 1) := dk_26 (dk_at dksJ6_numberOfLeadingZeros_2 2 rfl rfl)
theorem dJ6_numberOfLeadingZeros_49 : decode cJ6_numberOfLeadingZeros 49 = .ok (.bipush 16, 2) := dk_16 16 (dk_at dksJ6_numberOfLeadingZeros_2 3 rfl rfl)
theorem dJ6_numberOfLeadingZeros_51 : decode cJ6_numberOfLeadingZeros 51 = .ok (.if_icmp .lt 10, 3) := dk_161 0 10 (dk_at dksJ6_numberOfLeadingZeros_2 5 rfl rfl)
theorem dJ6_numberOfLeadingZeros_54 : decode cJ6_numberOfLeadingZeros 54 = .ok (.iinc 1 (-4), 3) := dk_132 1 252 (dk_at dksJ6_numberOfLeadingZeros_2 8 rfl rfl)
theorem dJ6_numberOfLeadingZeros_57 : decode cJ6_numberOfLeadingZeros 57 = .ok (.iload_n 0, 1) := dk_26 (dk_at dksJ6_numberOfLeadingZeros_2 11 rfl rfl)
theorem dJ6_numberOfLeadingZeros_58 : decode cJ6_numberOfLeadingZeros 58 = .ok (.iconst 4, 1) := dk_7 (dk_at dksJ6_numberOfLeadingZeros_2 12 rfl rfl)
theorem dJ6_numberOfLeadingZeros_59 : decode cJ6_numberOfLeadingZeros 59 = .ok (.iushr, 1) := dk_124 (dk_at dksJ6_numberOfLeadingZeros_2 13 rfl rfl)
theorem dJ6_numberOfLeadingZeros_60 : decode cJ6_numberOfLeadingZeros 60 = .ok (.istore_n 0, 1) := dk_59 (dk_at dksJ6_numberOfLeadingZeros_2 14 rfl rfl)
theorem dJ6_numberOfLeadingZeros_61 : decode cJ6_numberOfLeadingZeros 61 = .ok (.iload_n 0, 1) := dk_26 (dk_at dksJ6_numberOfLeadingZeros_2 15 rfl rfl)
theorem dJ6_numberOfLeadingZeros_62 : decode cJ6_numberOfLeadingZeros 62 = .ok (.iconst 4, 1) := dk_7 (dk_at dksJ6_numberOfLeadingZeros_2 16 rfl rfl)
theorem dJ6_numberOfLeadingZeros_63 : decode cJ6_numberOfLeadingZeros 63 = .ok (.if_icmp .lt 10, 3) := dk_161 0 10 (dk_at dksJ6_numberOfLeadingZeros_2 17 rfl rfl)
theorem dJ6_numberOfLeadingZeros_66 : decode cJ6_numberOfLeadingZeros 66 = .ok (.iinc 1 (-2), 3) := dk_132 1 254 (dk_at dksJ6_numberOfLeadingZeros_2 20 rfl rfl)
theorem dJ6_numberOfLeadingZeros_69 : decode cJ6_numberOfLeadingZeros 69 = .ok (.iload_n 0, 1) := dk_26 (dk_at dksJ6_numberOfLeadingZeros_2 23 rfl rfl)
theorem dJ6_numberOfLeadingZeros_70 : decode cJ6_numberOfLeadingZeros 70 = .ok (.iconst 2, 1) := dk_5 (dk_at dksJ6_numberOfLeadingZeros_3 0 rfl rfl)
theorem dJ6_numberOfLeadingZeros_71 : decode cJ6_numberOfLeadingZeros 71 = .ok (.iushr, 1) := dk_124 (dk_at dksJ6_numberOfLeadingZeros_3 1 rfl rfl)
theorem dJ6_numberOfLeadingZeros_72 : decode cJ6_numberOfLeadingZeros 72 = .ok (.istore_n 0, 1) := dk_59 (dk_at dksJ6_numberOfLeadingZeros_3 2 rfl rfl)
theorem dJ6_numberOfLeadingZeros_73 : decode cJ6_numberOfLeadingZeros 73 = .ok (.iload_n 1, 1) := dk_27 (dk_at dksJ6_numberOfLeadingZeros_3 3 rfl rfl)
theorem dJ6_numberOfLeadingZeros_74 : decode cJ6_numberOfLeadingZeros 74 = .ok (.iload_n 0, 1) := dk_26 (dk_at dksJ6_numberOfLeadingZeros_3 4 rfl rfl)
theorem dJ6_numberOfLeadingZeros_75 : decode cJ6_numberOfLeadingZeros 75 = .ok (.iconst 1, 1) := dk_4 (dk_at dksJ6_numberOfLeadingZeros_3 5 rfl rfl)
theorem dJ6_numberOfLeadingZeros_76 : decode cJ6_numberOfLeadingZeros 76 = .ok (.iushr, 1) := dk_124 (dk_at dksJ6_numberOfLeadingZeros_3 6 rfl rfl)
theorem dJ6_numberOfLeadingZeros_77 : decode cJ6_numberOfLeadingZeros 77 = .ok (.isub, 1) := dk_100 (dk_at dksJ6_numberOfLeadingZeros_3 7 rfl rfl)
theorem dJ6_numberOfLeadingZeros_78 : decode cJ6_numberOfLeadingZeros 78 = .ok (.ireturn, 1) := dk_172 (dk_at dksJ6_numberOfLeadingZeros_3 8 rfl rfl)
abbrev cJ6_numberOfTrailingZeros : ByteArray := prog_36_method_48_code
def yJ6_numberOfTrailingZeros : MethodName := ⟨RJ6, "numberOfTrailingZeros", "(I)I"⟩
def dkwJ6_numberOfTrailingZeros_3 : List UInt8 := [5, 124, 59, 27, 26, 4, 124, 96, 172]
abbrev dktJ6_numberOfTrailingZeros_3 : List UInt8 := dkwJ6_numberOfTrailingZeros_3 ++ []
def dkwJ6_numberOfTrailingZeros_2 : List UInt8 := [124, 59, 26, 16, 16, 164, 0, 10, 132, 1, 4, 26, 7, 124, 59, 26, 7, 164, 0, 10, 132, 1, 2, 26]
abbrev dktJ6_numberOfTrailingZeros_2 : List UInt8 := dkwJ6_numberOfTrailingZeros_2 ++ dktJ6_numberOfTrailingZeros_3
def dkwJ6_numberOfTrailingZeros_1 : List UInt8 := [164, 0, 11, 132, 1, 16, 26, 16, 16, 124, 59, 26, 17, 1, 0, 164, 0, 11, 132, 1, 8, 26, 16, 8]
abbrev dktJ6_numberOfTrailingZeros_1 : List UInt8 := dkwJ6_numberOfTrailingZeros_1 ++ dktJ6_numberOfTrailingZeros_2
def dkwJ6_numberOfTrailingZeros_0 : List UInt8 := [26, 2, 130, 26, 4, 100, 126, 59, 26, 157, 0, 8, 26, 16, 32, 126, 172, 4, 60, 26, 19, 1, 8]
abbrev dktJ6_numberOfTrailingZeros_0 : List UInt8 := dkwJ6_numberOfTrailingZeros_0 ++ dktJ6_numberOfTrailingZeros_1
theorem dksJ6_numberOfTrailingZeros_0 : cJ6_numberOfTrailingZeros.data.toList.drop 0 = dktJ6_numberOfTrailingZeros_0 := by decide +kernel
theorem dksJ6_numberOfTrailingZeros_1 : cJ6_numberOfTrailingZeros.data.toList.drop 23 = dktJ6_numberOfTrailingZeros_1 := dk_seg dksJ6_numberOfTrailingZeros_0 23 rfl rfl
theorem dksJ6_numberOfTrailingZeros_2 : cJ6_numberOfTrailingZeros.data.toList.drop 47 = dktJ6_numberOfTrailingZeros_2 := dk_seg dksJ6_numberOfTrailingZeros_1 24 rfl rfl
theorem dksJ6_numberOfTrailingZeros_3 : cJ6_numberOfTrailingZeros.data.toList.drop 71 = dktJ6_numberOfTrailingZeros_3 := dk_seg dksJ6_numberOfTrailingZeros_2 24 rfl rfl
theorem dJ6_numberOfTrailingZeros_0 : decode cJ6_numberOfTrailingZeros 0 = .ok (.iload_n 0, 1) := dk_26 (dk_at dksJ6_numberOfTrailingZeros_0 0 rfl rfl)
theorem dJ6_numberOfTrailingZeros_1 : decode cJ6_numberOfTrailingZeros 1 = .ok (.iconst (-1), 1) := dk_2 (dk_at dksJ6_numberOfTrailingZeros_0 1 rfl rfl)
theorem dJ6_numberOfTrailingZeros_2 : decode cJ6_numberOfTrailingZeros 2 = .ok (.ixor, 1) := dk_130 (dk_at dksJ6_numberOfTrailingZeros_0 2 rfl rfl)
theorem dJ6_numberOfTrailingZeros_3 : decode cJ6_numberOfTrailingZeros 3 = .ok (.iload_n 0, 1) := dk_26 (dk_at dksJ6_numberOfTrailingZeros_0 3 rfl rfl)
theorem dJ6_numberOfTrailingZeros_4 : decode cJ6_numberOfTrailingZeros 4 = .ok (.iconst 1, 1) := dk_4 (dk_at dksJ6_numberOfTrailingZeros_0 4 rfl rfl)
theorem dJ6_numberOfTrailingZeros_5 : decode cJ6_numberOfTrailingZeros 5 = .ok (.isub, 1) := dk_100 (dk_at dksJ6_numberOfTrailingZeros_0 5 rfl rfl)
theorem dJ6_numberOfTrailingZeros_6 : decode cJ6_numberOfTrailingZeros 6 = .ok (.iand, 1) := dk_126 (dk_at dksJ6_numberOfTrailingZeros_0 6 rfl rfl)
theorem dJ6_numberOfTrailingZeros_7 : decode cJ6_numberOfTrailingZeros 7 = .ok (.istore_n 0, 1) := dk_59 (dk_at dksJ6_numberOfTrailingZeros_0 7 rfl rfl)
theorem dJ6_numberOfTrailingZeros_8 : decode cJ6_numberOfTrailingZeros 8 = .ok (.iload_n 0, 1) := dk_26 (dk_at dksJ6_numberOfTrailingZeros_0 8 rfl rfl)
theorem dJ6_numberOfTrailingZeros_9 : decode cJ6_numberOfTrailingZeros 9 = .ok (.ifCond .gt 8, 3) := dk_157 0 8 (dk_at dksJ6_numberOfTrailingZeros_0 9 rfl rfl)
theorem dJ6_numberOfTrailingZeros_12 : decode cJ6_numberOfTrailingZeros 12 = .ok (.iload_n 0, 1) := dk_26 (dk_at dksJ6_numberOfTrailingZeros_0 12 rfl rfl)
theorem dJ6_numberOfTrailingZeros_13 : decode cJ6_numberOfTrailingZeros 13 = .ok (.bipush 32, 2) := dk_16 32 (dk_at dksJ6_numberOfTrailingZeros_0 13 rfl rfl)
theorem dJ6_numberOfTrailingZeros_15 : decode cJ6_numberOfTrailingZeros 15 = .ok (.iand, 1) := dk_126 (dk_at dksJ6_numberOfTrailingZeros_0 15 rfl rfl)
theorem dJ6_numberOfTrailingZeros_16 : decode cJ6_numberOfTrailingZeros 16 = .ok (.ireturn, 1) := dk_172 (dk_at dksJ6_numberOfTrailingZeros_0 16 rfl rfl)
theorem dJ6_numberOfTrailingZeros_17 : decode cJ6_numberOfTrailingZeros 17 = .ok (.iconst 1, 1) := dk_4 (dk_at dksJ6_numberOfTrailingZeros_0 17 rfl rfl)
theorem dJ6_numberOfTrailingZeros_18 : decode cJ6_numberOfTrailingZeros 18 = .ok (.istore_n 1, 1) := dk_60 (dk_at dksJ6_numberOfTrailingZeros_0 18 rfl rfl)
theorem dJ6_numberOfTrailingZeros_19 : decode cJ6_numberOfTrailingZeros 19 = .ok (.iload_n 0, 1) := dk_26 (dk_at dksJ6_numberOfTrailingZeros_0 19 rfl rfl)
theorem dJ6_numberOfTrailingZeros_20 : decode cJ6_numberOfTrailingZeros 20 = .ok (.ldc_w 264, 3) := dk_19 1 8 (dk_at dksJ6_numberOfTrailingZeros_0 20 rfl rfl)
theorem dJ6_numberOfTrailingZeros_23 : decode cJ6_numberOfTrailingZeros 23 = .ok (.if_icmp .le 11, 3) := dk_164 0 11 (dk_at dksJ6_numberOfTrailingZeros_1 0 rfl rfl)
theorem dJ6_numberOfTrailingZeros_26 : decode cJ6_numberOfTrailingZeros 26 = .ok (.iinc 1 16, 3) := dk_132 1 16 (dk_at dksJ6_numberOfTrailingZeros_1 3 rfl rfl)
theorem dJ6_numberOfTrailingZeros_29 : decode cJ6_numberOfTrailingZeros 29 = .ok (.iload_n 0, 1) := dk_26 (dk_at dksJ6_numberOfTrailingZeros_1 6 rfl rfl)
theorem dJ6_numberOfTrailingZeros_30 : decode cJ6_numberOfTrailingZeros 30 = .ok (.bipush 16, 2) := dk_16 16 (dk_at dksJ6_numberOfTrailingZeros_1 7 rfl rfl)
theorem dJ6_numberOfTrailingZeros_32 : decode cJ6_numberOfTrailingZeros 32 = .ok (.iushr, 1) := dk_124 (dk_at dksJ6_numberOfTrailingZeros_1 9 rfl rfl)
theorem dJ6_numberOfTrailingZeros_33 : decode cJ6_numberOfTrailingZeros 33 = .ok (.istore_n 0, 1) := dk_59 (dk_at dksJ6_numberOfTrailingZeros_1 10 rfl rfl)
theorem dJ6_numberOfTrailingZeros_34 : decode cJ6_numberOfTrailingZeros 34 = .ok (.iload_n 0, 1) := dk_26 (dk_at dksJ6_numberOfTrailingZeros_1 11 rfl rfl)
theorem dJ6_numberOfTrailingZeros_35 : decode cJ6_numberOfTrailingZeros 35 = .ok (.sipush 256, 3) := dk_17 1 0 (dk_at dksJ6_numberOfTrailingZeros_1 12 rfl rfl)
theorem dJ6_numberOfTrailingZeros_38 : decode cJ6_numberOfTrailingZeros 38 = .ok (.if_icmp .le 11, 3) := dk_164 0 11 (dk_at dksJ6_numberOfTrailingZeros_1 15 rfl rfl)
theorem dJ6_numberOfTrailingZeros_41 : decode cJ6_numberOfTrailingZeros 41 = .ok (.iinc 1 8, 3) := dk_132 1 8 (dk_at dksJ6_numberOfTrailingZeros_1 18 rfl rfl)
theorem dJ6_numberOfTrailingZeros_44 : decode cJ6_numberOfTrailingZeros 44 = .ok (.iload_n 0, 1) := dk_26 (dk_at dksJ6_numberOfTrailingZeros_1 21 rfl rfl)
theorem dJ6_numberOfTrailingZeros_45 : decode cJ6_numberOfTrailingZeros 45 = .ok (.bipush 8, 2) := dk_16 8 (dk_at dksJ6_numberOfTrailingZeros_1 22 rfl rfl)
theorem dJ6_numberOfTrailingZeros_47 : decode cJ6_numberOfTrailingZeros 47 = .ok (.iushr, 1) := dk_124 (dk_at dksJ6_numberOfTrailingZeros_2 0 rfl rfl)
theorem dJ6_numberOfTrailingZeros_48 : decode cJ6_numberOfTrailingZeros 48 = .ok (.istore_n 0, 1) := dk_59 (dk_at dksJ6_numberOfTrailingZeros_2 1 rfl rfl)
theorem dJ6_numberOfTrailingZeros_49 : decode cJ6_numberOfTrailingZeros 49 = .ok (.iload_n 0, 1) := dk_26 (dk_at dksJ6_numberOfTrailingZeros_2 2 rfl rfl)
theorem dJ6_numberOfTrailingZeros_50 : decode cJ6_numberOfTrailingZeros 50 = .ok (.bipush 16, 2) := dk_16 16 (dk_at dksJ6_numberOfTrailingZeros_2 3 rfl rfl)
theorem dJ6_numberOfTrailingZeros_52 : decode cJ6_numberOfTrailingZeros 52 = .ok (.if_icmp .le 10, 3) := dk_164 0 10 (dk_at dksJ6_numberOfTrailingZeros_2 5 rfl rfl)
theorem dJ6_numberOfTrailingZeros_55 : decode cJ6_numberOfTrailingZeros 55 = .ok (.iinc 1 4, 3) := dk_132 1 4 (dk_at dksJ6_numberOfTrailingZeros_2 8 rfl rfl)
theorem dJ6_numberOfTrailingZeros_58 : decode cJ6_numberOfTrailingZeros 58 = .ok (.iload_n 0, 1) := dk_26 (dk_at dksJ6_numberOfTrailingZeros_2 11 rfl rfl)
theorem dJ6_numberOfTrailingZeros_59 : decode cJ6_numberOfTrailingZeros 59 = .ok (.iconst 4, 1) := dk_7 (dk_at dksJ6_numberOfTrailingZeros_2 12 rfl rfl)
theorem dJ6_numberOfTrailingZeros_60 : decode cJ6_numberOfTrailingZeros 60 = .ok (.iushr, 1) := dk_124 (dk_at dksJ6_numberOfTrailingZeros_2 13 rfl rfl)
theorem dJ6_numberOfTrailingZeros_61 : decode cJ6_numberOfTrailingZeros 61 = .ok (.istore_n 0, 1) := dk_59 (dk_at dksJ6_numberOfTrailingZeros_2 14 rfl rfl)
theorem dJ6_numberOfTrailingZeros_62 : decode cJ6_numberOfTrailingZeros 62 = .ok (.iload_n 0, 1) := dk_26 (dk_at dksJ6_numberOfTrailingZeros_2 15 rfl rfl)
theorem dJ6_numberOfTrailingZeros_63 : decode cJ6_numberOfTrailingZeros 63 = .ok (.iconst 4, 1) := dk_7 (dk_at dksJ6_numberOfTrailingZeros_2 16 rfl rfl)
theorem dJ6_numberOfTrailingZeros_64 : decode cJ6_numberOfTrailingZeros 64 = .ok (.if_icmp .le 10, 3) := dk_164 0 10 (dk_at dksJ6_numberOfTrailingZeros_2 17 rfl rfl)
theorem dJ6_numberOfTrailingZeros_67 : decode cJ6_numberOfTrailingZeros 67 = .ok (.iinc 1 2, 3) := dk_132 1 2 (dk_at dksJ6_numberOfTrailingZeros_2 20 rfl rfl)
theorem dJ6_numberOfTrailingZeros_70 : decode cJ6_numberOfTrailingZeros 70 = .ok (.iload_n 0, 1) := dk_26 (dk_at dksJ6_numberOfTrailingZeros_2 23 rfl rfl)
theorem dJ6_numberOfTrailingZeros_71 : decode cJ6_numberOfTrailingZeros 71 = .ok (.iconst 2, 1) := dk_5 (dk_at dksJ6_numberOfTrailingZeros_3 0 rfl rfl)
theorem dJ6_numberOfTrailingZeros_72 : decode cJ6_numberOfTrailingZeros 72 = .ok (.iushr, 1) := dk_124 (dk_at dksJ6_numberOfTrailingZeros_3 1 rfl rfl)
theorem dJ6_numberOfTrailingZeros_73 : decode cJ6_numberOfTrailingZeros 73 = .ok (.istore_n 0, 1) := dk_59 (dk_at dksJ6_numberOfTrailingZeros_3 2 rfl rfl)
theorem dJ6_numberOfTrailingZeros_74 : decode cJ6_numberOfTrailingZeros 74 = .ok (.iload_n 1, 1) := dk_27 (dk_at dksJ6_numberOfTrailingZeros_3 3 rfl rfl)
theorem dJ6_numberOfTrailingZeros_75 : decode cJ6_numberOfTrailingZeros 75 = .ok (.iload_n 0, 1) := dk_26 (dk_at dksJ6_numberOfTrailingZeros_3 4 rfl rfl)
theorem dJ6_numberOfTrailingZeros_76 : decode cJ6_numberOfTrailingZeros 76 = .ok (.iconst 1, 1) := dk_4 (dk_at dksJ6_numberOfTrailingZeros_3 5 rfl rfl)
theorem dJ6_numberOfTrailingZeros_77 : decode cJ6_numberOfTrailingZeros 77 = .ok (.iushr, 1) := dk_124 (dk_at dksJ6_numberOfTrailingZeros_3 6 rfl rfl)
theorem dJ6_numberOfTrailingZeros_78 : decode cJ6_numberOfTrailingZeros 78 = .ok (.iadd, 1) := dk_96 (dk_at dksJ6_numberOfTrailingZeros_3 7 rfl rfl)
theorem dJ6_numberOfTrailingZeros_79 : decode cJ6_numberOfTrailingZeros 79 = .ok (.ireturn, 1) := dk_172 (dk_at dksJ6_numberOfTrailingZeros_3 8 rfl rfl)
theorem q131 : (Jvm.Cond.initialized "java/lang/Integer") ∈ lw_all := lw_g (lw_at lw_m1 9 rfl) rfl
theorem q269 : (Jvm.Cond.static ({ cls := "java/lang/Integer", name := "valueOf", desc := "(I)Ljava/lang/Integer;" } : Jvm.MethodName)) ∈ lw_all := lw_g (lw_at lw_m1 147 rfl) rfl
theorem q270 : (Jvm.Cond.code ({ cls := "java/lang/Integer", name := "valueOf", desc := "(I)Ljava/lang/Integer;" } : Jvm.MethodName) prog_36_method_22_code (1 : Nat) (Option.some (Jvm.ClassFile.FieldType.object "java/lang/Integer"))) ∈ lw_all := lw_g (lw_at lw_m1 148 rfl) rfl
theorem q271 : (Jvm.Cond.fieldLink "java/lang/Integer" (191 : Nat) "java/lang/Integer$IntegerCache" "high" "I") ∈ lw_all := lw_g (lw_at lw_m1 149 rfl) rfl
theorem q273 : (Jvm.Cond.fieldLink "java/lang/Integer" (195 : Nat) "java/lang/Integer$IntegerCache" "cache" "[Ljava/lang/Integer;") ∈ lw_all := lw_g (lw_at lw_m1 151 rfl) rfl
theorem q275 : (Jvm.Cond.classLink "java/lang/Integer" (1 : Nat) "java/lang/Integer") ∈ lw_all := lw_g (lw_at lw_m1 153 rfl) rfl
theorem q276 : (Jvm.Cond.instantiable "java/lang/Integer" (1 : Nat)) ∈ lw_all := lw_g (lw_at lw_m1 154 rfl) rfl
theorem q277 : (Jvm.Cond.methodLink "java/lang/Integer" (199 : Nat) ({ cls := "java/lang/Integer", name := "<init>", desc := "(I)V" } : Jvm.MethodName)) ∈ lw_all := lw_g (lw_at lw_m1 155 rfl) rfl
theorem q278 : (Jvm.Cond.instanceMethod ({ cls := "java/lang/Integer", name := "<init>", desc := "(I)V" } : Jvm.MethodName)) ∈ lw_all := lw_g (lw_at lw_m1 156 rfl) rfl
theorem q279 : (Jvm.Cond.code ({ cls := "java/lang/Integer", name := "<init>", desc := "(I)V" } : Jvm.MethodName) prog_36_method_23_code (2 : Nat) (Option.none : Option Jvm.ClassFile.FieldType)) ∈ lw_all := lw_g (lw_at lw_m1 157 rfl) rfl
theorem q280 : (Jvm.Cond.methodLink "java/lang/Integer" (202 : Nat) ({ cls := "java/lang/Number", name := "<init>", desc := "()V" } : Jvm.MethodName)) ∈ lw_all := lw_g (lw_at lw_m1 158 rfl) rfl
theorem q284 : (Jvm.Cond.fieldLink "java/lang/Integer" (205 : Nat) "java/lang/Integer" "value" "I") ∈ lw_all := lw_g (lw_at lw_m1 162 rfl) rfl
theorem q285 : (Jvm.Cond.laysFinal "java/lang/Integer" "java/lang/Integer" "value" "I") ∈ lw_all := lw_g (lw_at lw_m1 163 rfl) rfl
theorem q286 : (Jvm.Cond.soleField "java/lang/Integer" "value") ∈ lw_all := lw_g (lw_at lw_m1 164 rfl) rfl
theorem q287 : (Jvm.Cond.superclass "java/lang/Integer" "java/lang/Number") ∈ lw_all := lw_g (lw_at lw_m1 165 rfl) rfl
theorem q321 : (Jvm.Cond.static ({ cls := "java/lang/Integer", name := "compare", desc := "(II)I" } : Jvm.MethodName)) ∈ lw_all := lw_g (lw_at lw_m1 199 rfl) rfl
theorem q322 : (Jvm.Cond.code ({ cls := "java/lang/Integer", name := "compare", desc := "(II)I" } : Jvm.MethodName) prog_36_method_40_code (2 : Nat) (Option.some Jvm.ClassFile.FieldType.int)) ∈ lw_all := lw_g (lw_at lw_m1 200 rfl) rfl
theorem q363 : (Jvm.Cond.selects "java/lang/Integer" ({ cls := "java/lang/Object", name := "getClass", desc := "()Ljava/lang/Class;" } : Jvm.MethodName) ({ cls := "java/lang/Object", name := "getClass", desc := "()Ljava/lang/Class;" } : Jvm.MethodName)) ∈ lw_all := lw_g (lw_at lw_m2 1 rfl) rfl
theorem q386 : (Jvm.Cond.castable "java/lang/Integer" "java/lang/Comparable") ∈ lw_tbl := lw_at lw_m2 24 rfl
theorem q387 : (Jvm.Cond.selects "java/lang/Integer" ({ cls := "java/lang/Comparable", name := "compareTo", desc := "(Ljava/lang/Object;)I" } : Jvm.MethodName) ({ cls := "java/lang/Integer", name := "compareTo", desc := "(Ljava/lang/Object;)I" } : Jvm.MethodName)) ∈ lw_all := lw_g (lw_at lw_m2 25 rfl) rfl
theorem q388 : (Jvm.Cond.unhidden "java/lang/Integer" "compareTo" "(Ljava/lang/Object;)I") ∈ lw_tbl := lw_at lw_m2 26 rfl
theorem q389 : (Jvm.Cond.instanceMethod ({ cls := "java/lang/Integer", name := "compareTo", desc := "(Ljava/lang/Object;)I" } : Jvm.MethodName)) ∈ lw_all := lw_g (lw_at lw_m2 27 rfl) rfl
theorem q390 : (Jvm.Cond.publicMethod ({ cls := "java/lang/Integer", name := "compareTo", desc := "(Ljava/lang/Object;)I" } : Jvm.MethodName)) ∈ lw_tbl := lw_at lw_m2 28 rfl
theorem q391 : (Jvm.Cond.code ({ cls := "java/lang/Integer", name := "compareTo", desc := "(Ljava/lang/Object;)I" } : Jvm.MethodName) prog_36_method_63_code (2 : Nat) (Option.some Jvm.ClassFile.FieldType.int)) ∈ lw_all := lw_g (lw_at lw_m2 29 rfl) rfl
theorem q392 : (Jvm.Cond.methodLink "java/lang/Integer" (284 : Nat) ({ cls := "java/lang/Integer", name := "compareTo", desc := "(Ljava/lang/Integer;)I" } : Jvm.MethodName)) ∈ lw_all := lw_g (lw_at lw_m2 30 rfl) rfl
theorem q393 : (Jvm.Cond.instanceMethod ({ cls := "java/lang/Integer", name := "compareTo", desc := "(Ljava/lang/Integer;)I" } : Jvm.MethodName)) ∈ lw_all := lw_g (lw_at lw_m2 31 rfl) rfl
theorem q394 : (Jvm.Cond.selects "java/lang/Integer" ({ cls := "java/lang/Integer", name := "compareTo", desc := "(Ljava/lang/Integer;)I" } : Jvm.MethodName) ({ cls := "java/lang/Integer", name := "compareTo", desc := "(Ljava/lang/Integer;)I" } : Jvm.MethodName)) ∈ lw_all := lw_g (lw_at lw_m2 32 rfl) rfl
theorem q395 : (Jvm.Cond.code ({ cls := "java/lang/Integer", name := "compareTo", desc := "(Ljava/lang/Integer;)I" } : Jvm.MethodName) prog_36_method_39_code (2 : Nat) (Option.some Jvm.ClassFile.FieldType.int)) ∈ lw_all := lw_g (lw_at lw_m2 33 rfl) rfl
theorem q396 : (Jvm.Cond.methodLink "java/lang/Integer" (259 : Nat) ({ cls := "java/lang/Integer", name := "compare", desc := "(II)I" } : Jvm.MethodName)) ∈ lw_all := lw_g (lw_at lw_m2 34 rfl) rfl
theorem q495 : (Jvm.Cond.static ({ cls := "java/lang/Integer", name := "numberOfLeadingZeros", desc := "(I)I" } : Jvm.MethodName)) ∈ lw_all := lw_g (lw_at lw_m2 133 rfl) rfl
theorem q496 : (Jvm.Cond.code ({ cls := "java/lang/Integer", name := "numberOfLeadingZeros", desc := "(I)I" } : Jvm.MethodName) prog_36_method_47_code (2 : Nat) (Option.some Jvm.ClassFile.FieldType.int)) ∈ lw_all := lw_g (lw_at lw_m2 134 rfl) rfl
theorem q497 : (Jvm.Cond.constant "java/lang/Integer" (264 : Nat) (65536 : Int32)) ∈ lw_all := lw_g (lw_at lw_m2 135 rfl) rfl
theorem q504 : (Jvm.Cond.static ({ cls := "java/lang/Integer", name := "numberOfTrailingZeros", desc := "(I)I" } : Jvm.MethodName)) ∈ lw_all := lw_g (lw_at lw_m2 142 rfl) rfl
theorem q505 : (Jvm.Cond.code ({ cls := "java/lang/Integer", name := "numberOfTrailingZeros", desc := "(I)I" } : Jvm.MethodName) prog_36_method_48_code (2 : Nat) (Option.some Jvm.ClassFile.FieldType.int)) ∈ lw_all := lw_g (lw_at lw_m2 143 rfl) rfl
theorem q786 : (Jvm.Cond.selects "java/lang/Integer" ({ cls := "java/lang/Object", name := "equals", desc := "(Ljava/lang/Object;)Z" } : Jvm.MethodName) ({ cls := "java/lang/Integer", name := "equals", desc := "(Ljava/lang/Object;)Z" } : Jvm.MethodName)) ∈ lw_all := lw_g (lw_at lw_m3 184 rfl) rfl
theorem q787 : (Jvm.Cond.instanceMethod ({ cls := "java/lang/Integer", name := "equals", desc := "(Ljava/lang/Object;)Z" } : Jvm.MethodName)) ∈ lw_all := lw_g (lw_at lw_m3 185 rfl) rfl
theorem q788 : (Jvm.Cond.code ({ cls := "java/lang/Integer", name := "equals", desc := "(Ljava/lang/Object;)Z" } : Jvm.MethodName) prog_36_method_34_code (2 : Nat) (Option.some Jvm.ClassFile.FieldType.boolean)) ∈ lw_all := lw_g (lw_at lw_m3 186 rfl) rfl
theorem q789 : (Jvm.Cond.methodLink "java/lang/Integer" (211 : Nat) ({ cls := "java/lang/Integer", name := "intValue", desc := "()I" } : Jvm.MethodName)) ∈ lw_all := lw_g (lw_at lw_m3 187 rfl) rfl
theorem q790 : (Jvm.Cond.instanceMethod ({ cls := "java/lang/Integer", name := "intValue", desc := "()I" } : Jvm.MethodName)) ∈ lw_all := lw_g (lw_at lw_m3 188 rfl) rfl
theorem q791 : (Jvm.Cond.selects "java/lang/Integer" ({ cls := "java/lang/Integer", name := "intValue", desc := "()I" } : Jvm.MethodName) ({ cls := "java/lang/Integer", name := "intValue", desc := "()I" } : Jvm.MethodName)) ∈ lw_all := lw_g (lw_at lw_m3 189 rfl) rfl
theorem q792 : (Jvm.Cond.code ({ cls := "java/lang/Integer", name := "intValue", desc := "()I" } : Jvm.MethodName) prog_36_method_27_code (1 : Nat) (Option.some Jvm.ClassFile.FieldType.int)) ∈ lw_all := lw_g (lw_at lw_m3 190 rfl) rfl
theorem q1794 : (Jvm.Cond.static ({ cls := "java/lang/Integer", name := "stringSize", desc := "(I)I" } : Jvm.MethodName)) ∈ lw_all := lw_g (lw_at lw_m7 232 rfl) rfl
theorem q1795 : (Jvm.Cond.code ({ cls := "java/lang/Integer", name := "stringSize", desc := "(I)I" } : Jvm.MethodName) prog_36_method_13_code (4 : Nat) (Option.some Jvm.ClassFile.FieldType.int)) ∈ lw_all := lw_g (lw_at lw_m7 233 rfl) rfl
theorem q1797 : (Jvm.Cond.static ({ cls := "java/lang/Integer", name := "getChars", desc := "(II[B)I" } : Jvm.MethodName)) ∈ lw_all := lw_g (lw_at lw_m7 235 rfl) rfl
theorem q1798 : (Jvm.Cond.code ({ cls := "java/lang/Integer", name := "getChars", desc := "(II[B)I" } : Jvm.MethodName) prog_36_method_12_code (7 : Nat) (Option.some Jvm.ClassFile.FieldType.int)) ∈ lw_all := lw_g (lw_at lw_m7 236 rfl) rfl
theorem q1799 : (Jvm.Cond.fieldLink "java/lang/Integer" (83 : Nat) "java/lang/Integer" "DigitOnes" "[B") ∈ lw_all := lw_g (lw_at lw_m7 237 rfl) rfl
theorem q1800 : (Jvm.Cond.laysStatic "java/lang/Integer" "DigitOnes" "[B") ∈ lw_tbl := lw_at lw_m7 238 rfl
theorem q1801 : (Jvm.Cond.fieldLink "java/lang/Integer" (87 : Nat) "java/lang/Integer" "DigitTens" "[B") ∈ lw_all := lw_g (lw_at lw_m7 239 rfl) rfl
theorem q1802 : (Jvm.Cond.laysStatic "java/lang/Integer" "DigitTens" "[B") ∈ lw_tbl := lw_at lw_m8 0 rfl
theorem q3467 : (Jvm.Cond.castable "java/lang/Integer" "java/lang/Object") ∈ lw_tbl := lw_at lw_m14 225 rfl
theorem in_J6 : ∀ w ∈ wsJ60, w ∈ lw_all := lw_in wsJ60 [285] (by decide +kernel) (by decide +kernel)

/-! java/lang/String -/
set_option maxRecDepth 100000
def RJ7 : String := "java/lang/String"
def TJ7 : u_T := fun k => match k with
  | 0 => ("java/lang/String", "value", "[B", true)
  | 1 => ("java/lang/String", "coder", "B", true)
  | 2 => ("java/lang/String", "hash", "I", false)
  | _ => ("java/lang/String", "hashIsZero", "Z", false)
def tyJ7 : Nat → FieldType := fun k => match k with
  | 0 => .array .byte
  | 1 => .byte
  | 2 => .int
  | _ => .boolean
abbrev wsJ70 : List Cond := u_ws RJ7 TJ7 4
theorem nmJ7 : ∀ a, a < 4 → ∀ b, b < 4 → a ≠ b → (TJ7 a).2.1 ≠ (TJ7 b).2.1 := by decide +kernel
theorem tyJ7_ok : ∀ k, k < 4 → parseFieldDescriptor (TJ7 k).2.2.1 = some (tyJ7 k) := by decide +kernel
abbrev cJ7_indexOf : ByteArray := prog_43_method_79_code
def yJ7_indexOf : MethodName := ⟨RJ7, "indexOf", "(I)I"⟩
def dkwJ7_indexOf_0 : List UInt8 := [42, 27, 3, 182, 2, 121, 172]
abbrev dktJ7_indexOf_0 : List UInt8 := dkwJ7_indexOf_0 ++ []
theorem dksJ7_indexOf_0 : cJ7_indexOf.data.toList.drop 0 = dktJ7_indexOf_0 := by decide +kernel
theorem dJ7_indexOf_0 : decode cJ7_indexOf 0 = .ok (.aload_n 0, 1) := dk_42 (dk_at dksJ7_indexOf_0 0 rfl rfl)
theorem dJ7_indexOf_1 : decode cJ7_indexOf 1 = .ok (.iload_n 1, 1) := dk_27 (dk_at dksJ7_indexOf_0 1 rfl rfl)
theorem dJ7_indexOf_2 : decode cJ7_indexOf 2 = .ok (.iconst 0, 1) := dk_3 (dk_at dksJ7_indexOf_0 2 rfl rfl)
theorem dJ7_indexOf_3 : decode cJ7_indexOf 3 = .ok (.invokevirtual 633, 3) := dk_182 2 121 (dk_at dksJ7_indexOf_0 3 rfl rfl)
theorem dJ7_indexOf_6 : decode cJ7_indexOf 6 = .ok (.ireturn, 1) := dk_172 (dk_at dksJ7_indexOf_0 6 rfl rfl)
abbrev cJ7_indexOf_2 : ByteArray := prog_43_method_80_code
def yJ7_indexOf_2 : MethodName := ⟨RJ7, "indexOf", "(II)I"⟩
def dkwJ7_indexOf_2_1 : List UInt8 := [180, 0, 9, 27, 28, 42, 182, 1, 249, 184, 2, 128, 172]
abbrev dktJ7_indexOf_2_1 : List UInt8 := dkwJ7_indexOf_2_1 ++ []
def dkwJ7_indexOf_2_0 : List UInt8 := [42, 182, 1, 236, 153, 0, 19, 42, 180, 0, 9, 27, 28, 42, 182, 1, 249, 184, 2, 125, 167, 0, 16, 42]
abbrev dktJ7_indexOf_2_0 : List UInt8 := dkwJ7_indexOf_2_0 ++ dktJ7_indexOf_2_1
theorem dksJ7_indexOf_2_0 : cJ7_indexOf_2.data.toList.drop 0 = dktJ7_indexOf_2_0 := by decide +kernel
theorem dksJ7_indexOf_2_1 : cJ7_indexOf_2.data.toList.drop 24 = dktJ7_indexOf_2_1 := dk_seg dksJ7_indexOf_2_0 24 rfl rfl
theorem dJ7_indexOf_2_0 : decode cJ7_indexOf_2 0 = .ok (.aload_n 0, 1) := dk_42 (dk_at dksJ7_indexOf_2_0 0 rfl rfl)
theorem dJ7_indexOf_2_1 : decode cJ7_indexOf_2 1 = .ok (.invokevirtual 492, 3) := dk_182 1 236 (dk_at dksJ7_indexOf_2_0 1 rfl rfl)
theorem dJ7_indexOf_2_4 : decode cJ7_indexOf_2 4 = .ok (.ifCond .eq 19, 3) := dk_153 0 19 (dk_at dksJ7_indexOf_2_0 4 rfl rfl)
theorem dJ7_indexOf_2_7 : decode cJ7_indexOf_2 7 = .ok (.aload_n 0, 1) := dk_42 (dk_at dksJ7_indexOf_2_0 7 rfl rfl)
theorem dJ7_indexOf_2_8 : decode cJ7_indexOf_2 8 = .ok (.getfield 9, 3) := dk_180 0 9 (dk_at dksJ7_indexOf_2_0 8 rfl rfl)
theorem dJ7_indexOf_2_11 : decode cJ7_indexOf_2 11 = .ok (.iload_n 1, 1) := dk_27 (dk_at dksJ7_indexOf_2_0 11 rfl rfl)
theorem dJ7_indexOf_2_12 : decode cJ7_indexOf_2 12 = .ok (.iload_n 2, 1) := dk_28 (dk_at dksJ7_indexOf_2_0 12 rfl rfl)
theorem dJ7_indexOf_2_13 : decode cJ7_indexOf_2 13 = .ok (.aload_n 0, 1) := dk_42 (dk_at dksJ7_indexOf_2_0 13 rfl rfl)
theorem dJ7_indexOf_2_14 : decode cJ7_indexOf_2 14 = .ok (.invokevirtual 505, 3) := dk_182 1 249 (dk_at dksJ7_indexOf_2_0 14 rfl rfl)
theorem dJ7_indexOf_2_17 : decode cJ7_indexOf_2 17 = .ok (.invokestatic 637, 3) := dk_184 2 125 (dk_at dksJ7_indexOf_2_0 17 rfl rfl)
theorem dJ7_indexOf_2_20 : decode cJ7_indexOf_2 20 = .ok (.goto 16, 3) := dk_167 0 16 (dk_at dksJ7_indexOf_2_0 20 rfl rfl)
theorem dJ7_indexOf_2_23 : decode cJ7_indexOf_2 23 = .ok (.aload_n 0, 1) := dk_42 (dk_at dksJ7_indexOf_2_0 23 rfl rfl)
theorem dJ7_indexOf_2_24 : decode cJ7_indexOf_2 24 = .ok (.getfield 9, 3) := dk_180 0 9 (dk_at dksJ7_indexOf_2_1 0 rfl rfl)
theorem dJ7_indexOf_2_27 : decode cJ7_indexOf_2 27 = .ok (.iload_n 1, 1) := dk_27 (dk_at dksJ7_indexOf_2_1 3 rfl rfl)
theorem dJ7_indexOf_2_28 : decode cJ7_indexOf_2 28 = .ok (.iload_n 2, 1) := dk_28 (dk_at dksJ7_indexOf_2_1 4 rfl rfl)
theorem dJ7_indexOf_2_29 : decode cJ7_indexOf_2 29 = .ok (.aload_n 0, 1) := dk_42 (dk_at dksJ7_indexOf_2_1 5 rfl rfl)
theorem dJ7_indexOf_2_30 : decode cJ7_indexOf_2 30 = .ok (.invokevirtual 505, 3) := dk_182 1 249 (dk_at dksJ7_indexOf_2_1 6 rfl rfl)
theorem dJ7_indexOf_2_33 : decode cJ7_indexOf_2 33 = .ok (.invokestatic 640, 3) := dk_184 2 128 (dk_at dksJ7_indexOf_2_1 9 rfl rfl)
theorem dJ7_indexOf_2_36 : decode cJ7_indexOf_2 36 = .ok (.ireturn, 1) := dk_172 (dk_at dksJ7_indexOf_2_1 12 rfl rfl)
abbrev cJ7_isLatin1 : ByteArray := prog_43_method_154_code
def yJ7_isLatin1 : MethodName := ⟨RJ7, "isLatin1", "()Z"⟩
def dkwJ7_isLatin1_0 : List UInt8 := [178, 0, 38, 153, 0, 14, 42, 180, 0, 15, 154, 0, 7, 4, 167, 0, 4, 3, 172]
abbrev dktJ7_isLatin1_0 : List UInt8 := dkwJ7_isLatin1_0 ++ []
theorem dksJ7_isLatin1_0 : cJ7_isLatin1.data.toList.drop 0 = dktJ7_isLatin1_0 := by decide +kernel
theorem dJ7_isLatin1_0 : decode cJ7_isLatin1 0 = .ok (.getstatic 38, 3) := dk_178 0 38 (dk_at dksJ7_isLatin1_0 0 rfl rfl)
theorem dJ7_isLatin1_3 : decode cJ7_isLatin1 3 = .ok (.ifCond .eq 14, 3) := dk_153 0 14 (dk_at dksJ7_isLatin1_0 3 rfl rfl)
theorem dJ7_isLatin1_6 : decode cJ7_isLatin1 6 = .ok (.aload_n 0, 1) := dk_42 (dk_at dksJ7_isLatin1_0 6 rfl rfl)
theorem dJ7_isLatin1_7 : decode cJ7_isLatin1 7 = .ok (.getfield 15, 3) := dk_180 0 15 (dk_at dksJ7_isLatin1_0 7 rfl rfl)
theorem dJ7_isLatin1_10 : decode cJ7_isLatin1 10 = .ok (.ifCond .ne 7, 3) := dk_154 0 7 (dk_at dksJ7_isLatin1_0 10 rfl rfl)
theorem dJ7_isLatin1_13 : decode cJ7_isLatin1 13 = .ok (.iconst 1, 1) := dk_4 (dk_at dksJ7_isLatin1_0 13 rfl rfl)
theorem dJ7_isLatin1_14 : decode cJ7_isLatin1 14 = .ok (.goto 4, 3) := dk_167 0 4 (dk_at dksJ7_isLatin1_0 14 rfl rfl)
theorem dJ7_isLatin1_17 : decode cJ7_isLatin1 17 = .ok (.iconst 0, 1) := dk_3 (dk_at dksJ7_isLatin1_0 17 rfl rfl)
theorem dJ7_isLatin1_18 : decode cJ7_isLatin1 18 = .ok (.ireturn, 1) := dk_172 (dk_at dksJ7_isLatin1_0 18 rfl rfl)
theorem q133 : (Jvm.Cond.initialized "java/lang/String") ∈ lw_all := lw_g (lw_at lw_m1 11 rfl) rfl
theorem q364 : (Jvm.Cond.selects "java/lang/String" ({ cls := "java/lang/Object", name := "getClass", desc := "()Ljava/lang/Class;" } : Jvm.MethodName) ({ cls := "java/lang/Object", name := "getClass", desc := "()Ljava/lang/Class;" } : Jvm.MethodName)) ∈ lw_all := lw_g (lw_at lw_m2 2 rfl) rfl
theorem q397 : (Jvm.Cond.castable "java/lang/String" "java/lang/Comparable") ∈ lw_tbl := lw_at lw_m2 35 rfl
theorem q398 : (Jvm.Cond.selects "java/lang/String" ({ cls := "java/lang/Comparable", name := "compareTo", desc := "(Ljava/lang/Object;)I" } : Jvm.MethodName) ({ cls := "java/lang/String", name := "compareTo", desc := "(Ljava/lang/Object;)I" } : Jvm.MethodName)) ∈ lw_all := lw_g (lw_at lw_m2 36 rfl) rfl
theorem q399 : (Jvm.Cond.unhidden "java/lang/String" "compareTo" "(Ljava/lang/Object;)I") ∈ lw_tbl := lw_at lw_m2 37 rfl
theorem q400 : (Jvm.Cond.instanceMethod ({ cls := "java/lang/String", name := "compareTo", desc := "(Ljava/lang/Object;)I" } : Jvm.MethodName)) ∈ lw_all := lw_g (lw_at lw_m2 38 rfl) rfl
theorem q401 : (Jvm.Cond.publicMethod ({ cls := "java/lang/String", name := "compareTo", desc := "(Ljava/lang/Object;)I" } : Jvm.MethodName)) ∈ lw_tbl := lw_at lw_m2 39 rfl
theorem q402 : (Jvm.Cond.code ({ cls := "java/lang/String", name := "compareTo", desc := "(Ljava/lang/Object;)I" } : Jvm.MethodName) prog_43_method_162_code (2 : Nat) (Option.some Jvm.ClassFile.FieldType.int)) ∈ lw_all := lw_g (lw_at lw_m2 40 rfl) rfl
theorem q403 : (Jvm.Cond.classLink "java/lang/String" (10 : Nat) "java/lang/String") ∈ lw_all := lw_g (lw_at lw_m2 41 rfl) rfl
theorem q404 : (Jvm.Cond.methodLink "java/lang/String" (1084 : Nat) ({ cls := "java/lang/String", name := "compareTo", desc := "(Ljava/lang/String;)I" } : Jvm.MethodName)) ∈ lw_all := lw_g (lw_at lw_m2 42 rfl) rfl
theorem q405 : (Jvm.Cond.instanceMethod ({ cls := "java/lang/String", name := "compareTo", desc := "(Ljava/lang/String;)I" } : Jvm.MethodName)) ∈ lw_all := lw_g (lw_at lw_m2 43 rfl) rfl
theorem q406 : (Jvm.Cond.selects "java/lang/String" ({ cls := "java/lang/String", name := "compareTo", desc := "(Ljava/lang/String;)I" } : Jvm.MethodName) ({ cls := "java/lang/String", name := "compareTo", desc := "(Ljava/lang/String;)I" } : Jvm.MethodName)) ∈ lw_all := lw_g (lw_at lw_m2 44 rfl) rfl
theorem q407 : (Jvm.Cond.code ({ cls := "java/lang/String", name := "compareTo", desc := "(Ljava/lang/String;)I" } : Jvm.MethodName) prog_43_method_71_code (5 : Nat) (Option.some Jvm.ClassFile.FieldType.int)) ∈ lw_all := lw_g (lw_at lw_m2 45 rfl) rfl
theorem q408 : (Jvm.Cond.methodLink "java/lang/String" (335 : Nat) ({ cls := "java/lang/String", name := "coder", desc := "()B" } : Jvm.MethodName)) ∈ lw_all := lw_g (lw_at lw_m2 46 rfl) rfl
theorem q409 : (Jvm.Cond.instanceMethod ({ cls := "java/lang/String", name := "coder", desc := "()B" } : Jvm.MethodName)) ∈ lw_all := lw_g (lw_at lw_m2 47 rfl) rfl
theorem q410 : (Jvm.Cond.selects "java/lang/String" ({ cls := "java/lang/String", name := "coder", desc := "()B" } : Jvm.MethodName) ({ cls := "java/lang/String", name := "coder", desc := "()B" } : Jvm.MethodName)) ∈ lw_all := lw_g (lw_at lw_m2 48 rfl) rfl
theorem q411 : (Jvm.Cond.code ({ cls := "java/lang/String", name := "coder", desc := "()B" } : Jvm.MethodName) prog_43_method_152_code (1 : Nat) (Option.some Jvm.ClassFile.FieldType.byte)) ∈ lw_all := lw_g (lw_at lw_m2 49 rfl) rfl
theorem q412 : (Jvm.Cond.fieldLink "java/lang/String" (38 : Nat) "java/lang/String" "COMPACT_STRINGS" "Z") ∈ lw_all := lw_g (lw_at lw_m2 50 rfl) rfl
theorem q413 : (Jvm.Cond.laysStatic "java/lang/String" "COMPACT_STRINGS" "Z") ∈ lw_tbl := lw_at lw_m2 51 rfl
theorem q414 : (Jvm.Cond.methodLink "java/lang/String" (586 : Nat) ({ cls := "java/lang/StringLatin1", name := "compareTo", desc := "([B[B)I" } : Jvm.MethodName)) ∈ lw_all := lw_g (lw_at lw_m2 52 rfl) rfl
theorem q530 : (Jvm.Cond.methodLink "java/lang/String" (590 : Nat) ({ cls := "java/lang/StringUTF16", name := "compareTo", desc := "([B[B)I" } : Jvm.MethodName)) ∈ lw_all := lw_g (lw_at lw_m2 168 rfl) rfl
theorem q549 : (Jvm.Cond.methodLink "java/lang/String" (591 : Nat) ({ cls := "java/lang/StringLatin1", name := "compareToUTF16", desc := "([B[B)I" } : Jvm.MethodName)) ∈ lw_all := lw_g (lw_at lw_m2 187 rfl) rfl
theorem q560 : (Jvm.Cond.methodLink "java/lang/String" (594 : Nat) ({ cls := "java/lang/StringUTF16", name := "compareToLatin1", desc := "([B[B)I" } : Jvm.MethodName)) ∈ lw_all := lw_g (lw_at lw_m2 198 rfl) rfl
theorem q593 : (Jvm.Cond.static ({ cls := "java/lang/String", name := "checkOffset", desc := "(II)V" } : Jvm.MethodName)) ∈ lw_all := lw_g (lw_at lw_m2 231 rfl) rfl
theorem q594 : (Jvm.Cond.code ({ cls := "java/lang/String", name := "checkOffset", desc := "(II)V" } : Jvm.MethodName) prog_43_method_156_code (2 : Nat) (Option.none : Option Jvm.ClassFile.FieldType)) ∈ lw_all := lw_g (lw_at lw_m2 232 rfl) rfl
theorem q595 : (Jvm.Cond.fieldLink "java/lang/String" (1053 : Nat) "jdk/internal/util/Preconditions" "SIOOBE_FORMATTER" "Ljava/util/function/BiFunction;") ∈ lw_all := lw_g (lw_at lw_m2 233 rfl) rfl
theorem q597 : (Jvm.Cond.methodLink "java/lang/String" (1062 : Nat) ({ cls := "jdk/internal/util/Preconditions", name := "checkFromToIndex", desc := "(IIILjava/util/function/BiFunction;)I" } : Jvm.MethodName)) ∈ lw_all := lw_g (lw_at lw_m2 235 rfl) rfl
theorem q793 : (Jvm.Cond.selects "java/lang/String" ({ cls := "java/lang/Object", name := "equals", desc := "(Ljava/lang/Object;)Z" } : Jvm.MethodName) ({ cls := "java/lang/String", name := "equals", desc := "(Ljava/lang/Object;)Z" } : Jvm.MethodName)) ∈ lw_all := lw_g (lw_at lw_m3 191 rfl) rfl
theorem q794 : (Jvm.Cond.instanceMethod ({ cls := "java/lang/String", name := "equals", desc := "(Ljava/lang/Object;)Z" } : Jvm.MethodName)) ∈ lw_all := lw_g (lw_at lw_m3 192 rfl) rfl
theorem q795 : (Jvm.Cond.code ({ cls := "java/lang/String", name := "equals", desc := "(Ljava/lang/Object;)Z" } : Jvm.MethodName) prog_43_method_66_code (3 : Nat) (Option.some Jvm.ClassFile.FieldType.boolean)) ∈ lw_all := lw_g (lw_at lw_m3 193 rfl) rfl
theorem q796 : (Jvm.Cond.methodLink "java/lang/String" (541 : Nat) ({ cls := "java/lang/StringLatin1", name := "equals", desc := "([B[B)Z" } : Jvm.MethodName)) ∈ lw_all := lw_g (lw_at lw_m3 194 rfl) rfl
theorem q1693 : (Jvm.Cond.fieldLink "java/lang/String" (1048 : Nat) "java/lang/AbstractStringBuilder" "maybeLatin1" "Z") ∈ lw_all := lw_g (lw_at lw_m7 131 rfl) rfl
theorem q1743 : (Jvm.Cond.static ({ cls := "java/lang/String", name := "checkBoundsBeginEnd", desc := "(III)V" } : Jvm.MethodName)) ∈ lw_all := lw_g (lw_at lw_m7 181 rfl) rfl
theorem q1744 : (Jvm.Cond.code ({ cls := "java/lang/String", name := "checkBoundsBeginEnd", desc := "(III)V" } : Jvm.MethodName) prog_43_method_158_code (3 : Nat) (Option.none : Option Jvm.ClassFile.FieldType)) ∈ lw_all := lw_g (lw_at lw_m7 182 rfl) rfl
theorem q1749 : (Jvm.Cond.instanceMethod ({ cls := "java/lang/String", name := "length", desc := "()I" } : Jvm.MethodName)) ∈ lw_all := lw_g (lw_at lw_m7 187 rfl) rfl
theorem q1750 : (Jvm.Cond.selects "java/lang/String" ({ cls := "java/lang/String", name := "length", desc := "()I" } : Jvm.MethodName) ({ cls := "java/lang/String", name := "length", desc := "()I" } : Jvm.MethodName)) ∈ lw_all := lw_g (lw_at lw_m7 188 rfl) rfl
theorem q1751 : (Jvm.Cond.code ({ cls := "java/lang/String", name := "length", desc := "()I" } : Jvm.MethodName) prog_43_method_54_code (1 : Nat) (Option.some Jvm.ClassFile.FieldType.int)) ∈ lw_all := lw_g (lw_at lw_m7 189 rfl) rfl
theorem q1775 : (Jvm.Cond.static ({ cls := "java/lang/String", name := "checkBoundsOffCount", desc := "(III)I" } : Jvm.MethodName)) ∈ lw_all := lw_g (lw_at lw_m7 213 rfl) rfl
theorem q1776 : (Jvm.Cond.code ({ cls := "java/lang/String", name := "checkBoundsOffCount", desc := "(III)I" } : Jvm.MethodName) prog_43_method_157_code (3 : Nat) (Option.some Jvm.ClassFile.FieldType.int)) ∈ lw_all := lw_g (lw_at lw_m7 214 rfl) rfl
theorem q1777 : (Jvm.Cond.methodLink "java/lang/String" (1065 : Nat) ({ cls := "jdk/internal/util/Preconditions", name := "checkFromIndexSize", desc := "(IIILjava/util/function/BiFunction;)I" } : Jvm.MethodName)) ∈ lw_all := lw_g (lw_at lw_m7 215 rfl) rfl
theorem q1781 : (Jvm.Cond.instanceMethod ({ cls := "java/lang/String", name := "getBytes", desc := "([BIB)V" } : Jvm.MethodName)) ∈ lw_all := lw_g (lw_at lw_m7 219 rfl) rfl
theorem q1782 : (Jvm.Cond.selects "java/lang/String" ({ cls := "java/lang/String", name := "getBytes", desc := "([BIB)V" } : Jvm.MethodName) ({ cls := "java/lang/String", name := "getBytes", desc := "([BIB)V" } : Jvm.MethodName)) ∈ lw_all := lw_g (lw_at lw_m7 220 rfl) rfl
theorem q1783 : (Jvm.Cond.code ({ cls := "java/lang/String", name := "getBytes", desc := "([BIB)V" } : Jvm.MethodName) prog_43_method_147_code (4 : Nat) (Option.none : Option Jvm.ClassFile.FieldType)) ∈ lw_all := lw_g (lw_at lw_m7 221 rfl) rfl
theorem q1784 : (Jvm.Cond.methodLink "java/lang/String" (212 : Nat) ({ cls := "java/lang/System", name := "arraycopy", desc := "(Ljava/lang/Object;ILjava/lang/Object;II)V" } : Jvm.MethodName)) ∈ lw_all := lw_g (lw_at lw_m7 222 rfl) rfl
theorem q1785 : (Jvm.Cond.methodLink "java/lang/String" (106 : Nat) ({ cls := "java/lang/StringLatin1", name := "inflate", desc := "([BI[BII)V" } : Jvm.MethodName)) ∈ lw_all := lw_g (lw_at lw_m7 223 rfl) rfl
theorem q1816 : (Jvm.Cond.instantiable "java/lang/String" (4 : Nat)) ∈ lw_all := lw_g (lw_at lw_m8 14 rfl) rfl
theorem q1818 : (Jvm.Cond.instanceMethod ({ cls := "java/lang/String", name := "<init>", desc := "(Ljava/lang/StringBuilder;)V" } : Jvm.MethodName)) ∈ lw_all := lw_g (lw_at lw_m8 16 rfl) rfl
theorem q1819 : (Jvm.Cond.code ({ cls := "java/lang/String", name := "<init>", desc := "(Ljava/lang/StringBuilder;)V" } : Jvm.MethodName) prog_43_method_53_code (2 : Nat) (Option.none : Option Jvm.ClassFile.FieldType)) ∈ lw_all := lw_g (lw_at lw_m8 17 rfl) rfl
theorem q1820 : (Jvm.Cond.methodLink "java/lang/String" (489 : Nat) ({ cls := "java/lang/String", name := "<init>", desc := "(Ljava/lang/AbstractStringBuilder;Ljava/lang/Void;)V" } : Jvm.MethodName)) ∈ lw_all := lw_g (lw_at lw_m8 18 rfl) rfl
theorem q1821 : (Jvm.Cond.instanceMethod ({ cls := "java/lang/String", name := "<init>", desc := "(Ljava/lang/AbstractStringBuilder;Ljava/lang/Void;)V" } : Jvm.MethodName)) ∈ lw_all := lw_g (lw_at lw_m8 19 rfl) rfl
theorem q1822 : (Jvm.Cond.code ({ cls := "java/lang/String", name := "<init>", desc := "(Ljava/lang/AbstractStringBuilder;Ljava/lang/Void;)V" } : Jvm.MethodName) prog_43_method_150_code (5 : Nat) (Option.none : Option Jvm.ClassFile.FieldType)) ∈ lw_all := lw_g (lw_at lw_m8 20 rfl) rfl
theorem q1823 : (Jvm.Cond.methodLink "java/lang/String" (1 : Nat) ({ cls := "java/lang/Object", name := "<init>", desc := "()V" } : Jvm.MethodName)) ∈ lw_all := lw_g (lw_at lw_m8 21 rfl) rfl
theorem q1824 : (Jvm.Cond.methodLink "java/lang/String" (552 : Nat) ({ cls := "java/lang/AbstractStringBuilder", name := "getValue", desc := "()[B" } : Jvm.MethodName)) ∈ lw_all := lw_g (lw_at lw_m8 22 rfl) rfl
theorem q1829 : (Jvm.Cond.methodLink "java/lang/String" (549 : Nat) ({ cls := "java/lang/AbstractStringBuilder", name := "length", desc := "()I" } : Jvm.MethodName)) ∈ lw_all := lw_g (lw_at lw_m8 27 rfl) rfl
theorem q1837 : (Jvm.Cond.methodLink "java/lang/String" (1047 : Nat) ({ cls := "java/lang/AbstractStringBuilder", name := "isLatin1", desc := "()Z" } : Jvm.MethodName)) ∈ lw_all := lw_g (lw_at lw_m8 35 rfl) rfl
theorem q1838 : (Jvm.Cond.methodLink "java/lang/String" (54 : Nat) ({ cls := "java/util/Arrays", name := "copyOfRange", desc := "([BII)[B" } : Jvm.MethodName)) ∈ lw_all := lw_g (lw_at lw_m8 36 rfl) rfl
theorem q1866 : (Jvm.Cond.methodLink "java/lang/String" (1051 : Nat) ({ cls := "java/lang/StringUTF16", name := "compress", desc := "([BII)[B" } : Jvm.MethodName)) ∈ lw_all := lw_g (lw_at lw_m8 64 rfl) rfl
theorem q1873 : (Jvm.Cond.methodLink "java/lang/String" (47 : Nat) ({ cls := "java/lang/StringUTF16", name := "coderFromArrayLen", desc := "([BI)B" } : Jvm.MethodName)) ∈ lw_all := lw_g (lw_at lw_m8 71 rfl) rfl
theorem q1876 : (Jvm.Cond.fieldLink "java/lang/String" (9 : Nat) "java/lang/String" "value" "[B") ∈ lw_all := lw_g (lw_at lw_m8 74 rfl) rfl
theorem q1877 : (Jvm.Cond.fieldLink "java/lang/String" (15 : Nat) "java/lang/String" "coder" "B") ∈ lw_all := lw_g (lw_at lw_m8 75 rfl) rfl
theorem q1878 : (Jvm.Cond.laysFinal "java/lang/String" "java/lang/String" "value" "[B") ∈ lw_all := lw_g (lw_at lw_m8 76 rfl) rfl
theorem q1879 : (Jvm.Cond.soleField "java/lang/String" "value") ∈ lw_all := lw_g (lw_at lw_m8 77 rfl) rfl
theorem q1880 : (Jvm.Cond.laysFinal "java/lang/String" "java/lang/String" "coder" "B") ∈ lw_all := lw_g (lw_at lw_m8 78 rfl) rfl
theorem q1881 : (Jvm.Cond.soleField "java/lang/String" "coder") ∈ lw_all := lw_g (lw_at lw_m8 79 rfl) rfl
theorem q1882 : (Jvm.Cond.lays "java/lang/String" "java/lang/String" "hash" "I") ∈ lw_all := lw_g (lw_at lw_m8 80 rfl) rfl
theorem q1883 : (Jvm.Cond.soleField "java/lang/String" "hash") ∈ lw_all := lw_g (lw_at lw_m8 81 rfl) rfl
theorem q1884 : (Jvm.Cond.lays "java/lang/String" "java/lang/String" "hashIsZero" "Z") ∈ lw_all := lw_g (lw_at lw_m8 82 rfl) rfl
theorem q1885 : (Jvm.Cond.soleField "java/lang/String" "hashIsZero") ∈ lw_all := lw_g (lw_at lw_m8 83 rfl) rfl
theorem q1886 : (Jvm.Cond.superclass "java/lang/String" "java/lang/Object") ∈ lw_all := lw_g (lw_at lw_m8 84 rfl) rfl
theorem q2512 : (Jvm.Cond.instanceMethod ({ cls := "java/lang/String", name := "indexOf", desc := "(I)I" } : Jvm.MethodName)) ∈ lw_all := lw_g (lw_at lw_m10 230 rfl) rfl
theorem q2513 : (Jvm.Cond.selects "java/lang/String" ({ cls := "java/lang/String", name := "indexOf", desc := "(I)I" } : Jvm.MethodName) ({ cls := "java/lang/String", name := "indexOf", desc := "(I)I" } : Jvm.MethodName)) ∈ lw_all := lw_g (lw_at lw_m10 231 rfl) rfl
theorem q2514 : (Jvm.Cond.code ({ cls := "java/lang/String", name := "indexOf", desc := "(I)I" } : Jvm.MethodName) prog_43_method_79_code (2 : Nat) (Option.some Jvm.ClassFile.FieldType.int)) ∈ lw_all := lw_g (lw_at lw_m10 232 rfl) rfl
theorem q2515 : (Jvm.Cond.methodLink "java/lang/String" (633 : Nat) ({ cls := "java/lang/String", name := "indexOf", desc := "(II)I" } : Jvm.MethodName)) ∈ lw_all := lw_g (lw_at lw_m10 233 rfl) rfl
theorem q2516 : (Jvm.Cond.instanceMethod ({ cls := "java/lang/String", name := "indexOf", desc := "(II)I" } : Jvm.MethodName)) ∈ lw_all := lw_g (lw_at lw_m10 234 rfl) rfl
theorem q2517 : (Jvm.Cond.selects "java/lang/String" ({ cls := "java/lang/String", name := "indexOf", desc := "(II)I" } : Jvm.MethodName) ({ cls := "java/lang/String", name := "indexOf", desc := "(II)I" } : Jvm.MethodName)) ∈ lw_all := lw_g (lw_at lw_m10 235 rfl) rfl
theorem q2518 : (Jvm.Cond.code ({ cls := "java/lang/String", name := "indexOf", desc := "(II)I" } : Jvm.MethodName) prog_43_method_80_code (3 : Nat) (Option.some Jvm.ClassFile.FieldType.int)) ∈ lw_all := lw_g (lw_at lw_m10 236 rfl) rfl
theorem q2519 : (Jvm.Cond.methodLink "java/lang/String" (492 : Nat) ({ cls := "java/lang/String", name := "isLatin1", desc := "()Z" } : Jvm.MethodName)) ∈ lw_all := lw_g (lw_at lw_m10 237 rfl) rfl
theorem q2520 : (Jvm.Cond.instanceMethod ({ cls := "java/lang/String", name := "isLatin1", desc := "()Z" } : Jvm.MethodName)) ∈ lw_all := lw_g (lw_at lw_m10 238 rfl) rfl
theorem q2521 : (Jvm.Cond.selects "java/lang/String" ({ cls := "java/lang/String", name := "isLatin1", desc := "()Z" } : Jvm.MethodName) ({ cls := "java/lang/String", name := "isLatin1", desc := "()Z" } : Jvm.MethodName)) ∈ lw_all := lw_g (lw_at lw_m10 239 rfl) rfl
theorem q2522 : (Jvm.Cond.code ({ cls := "java/lang/String", name := "isLatin1", desc := "()Z" } : Jvm.MethodName) prog_43_method_154_code (1 : Nat) (Option.some Jvm.ClassFile.FieldType.boolean)) ∈ lw_all := lw_g (lw_at lw_m11 0 rfl) rfl
theorem q2523 : (Jvm.Cond.methodLink "java/lang/String" (505 : Nat) ({ cls := "java/lang/String", name := "length", desc := "()I" } : Jvm.MethodName)) ∈ lw_all := lw_g (lw_at lw_m11 1 rfl) rfl
theorem q2524 : (Jvm.Cond.methodLink "java/lang/String" (637 : Nat) ({ cls := "java/lang/StringLatin1", name := "indexOf", desc := "([BIII)I" } : Jvm.MethodName)) ∈ lw_all := lw_g (lw_at lw_m11 2 rfl) rfl
theorem q2534 : (Jvm.Cond.methodLink "java/lang/String" (640 : Nat) ({ cls := "java/lang/StringUTF16", name := "indexOf", desc := "([BIII)I" } : Jvm.MethodName)) ∈ lw_all := lw_g (lw_at lw_m11 12 rfl) rfl
theorem q3495 : (Jvm.Cond.castable "java/lang/String" "java/lang/Object") ∈ lw_tbl := lw_at lw_m15 13 rfl
theorem in_J7 : ∀ w ∈ wsJ70, w ∈ lw_all := lw_in wsJ70 [1878, 1880, 1882, 1884] (by decide +kernel) (by decide +kernel)

/-! java/lang/StringLatin1 -/
set_option maxRecDepth 100000
def RJ8 : String := "java/lang/StringLatin1"
abbrev cJ8_indexOf : ByteArray := prog_45_method_22_code
def yJ8_indexOf : MethodName := ⟨RJ8, "indexOf", "([BIII)I"⟩
def dkwJ8_indexOf_1 : List UInt8 := [161, 0, 5, 2, 172, 42, 27, 28, 29, 184, 0, 95, 172]
abbrev dktJ8_indexOf_1 : List UInt8 := dkwJ8_indexOf_1 ++ []
def dkwJ8_indexOf_0 : List UInt8 := [27, 184, 0, 88, 154, 0, 5, 2, 172, 28, 3, 184, 0, 92, 61, 29, 42, 190, 184, 0, 38, 62, 28, 29]
abbrev dktJ8_indexOf_0 : List UInt8 := dkwJ8_indexOf_0 ++ dktJ8_indexOf_1
theorem dksJ8_indexOf_0 : cJ8_indexOf.data.toList.drop 0 = dktJ8_indexOf_0 := by decide +kernel
theorem dksJ8_indexOf_1 : cJ8_indexOf.data.toList.drop 24 = dktJ8_indexOf_1 := dk_seg dksJ8_indexOf_0 24 rfl rfl
theorem dJ8_indexOf_0 : decode cJ8_indexOf 0 = .ok (.iload_n 1, 1) := dk_27 (dk_at dksJ8_indexOf_0 0 rfl rfl)
theorem dJ8_indexOf_1 : decode cJ8_indexOf 1 = .ok (.invokestatic 88, 3) := dk_184 0 88 (dk_at dksJ8_indexOf_0 1 rfl rfl)
theorem dJ8_indexOf_4 : decode cJ8_indexOf 4 = .ok (.ifCond .ne 5, 3) := dk_154 0 5 (dk_at dksJ8_indexOf_0 4 rfl rfl)
theorem dJ8_indexOf_7 : decode cJ8_indexOf 7 = .ok (.iconst (-1), 1) := dk_2 (dk_at dksJ8_indexOf_0 7 rfl rfl)
theorem dJ8_indexOf_8 : decode cJ8_indexOf 8 = .ok (.ireturn, 1) := dk_172 (dk_at dksJ8_indexOf_0 8 rfl rfl)
theorem dJ8_indexOf_9 : decode cJ8_indexOf 9 = .ok (.iload_n 2, 1) := dk_28 (dk_at dksJ8_indexOf_0 9 rfl rfl)
theorem dJ8_indexOf_10 : decode cJ8_indexOf 10 = .ok (.iconst 0, 1) := dk_3 (dk_at dksJ8_indexOf_0 10 rfl rfl)
theorem dJ8_indexOf_11 : decode cJ8_indexOf 11 = .ok (.invokestatic 92, 3) := dk_184 0 92 (dk_at dksJ8_indexOf_0 11 rfl rfl)
theorem dJ8_indexOf_14 : decode cJ8_indexOf 14 = .ok (.istore_n 2, 1) := dk_61 (dk_at dksJ8_indexOf_0 14 rfl rfl)
theorem dJ8_indexOf_15 : decode cJ8_indexOf 15 = .ok (.iload_n 3, 1) := dk_29 (dk_at dksJ8_indexOf_0 15 rfl rfl)
theorem dJ8_indexOf_16 : decode cJ8_indexOf 16 = .ok (.aload_n 0, 1) := dk_42 (dk_at dksJ8_indexOf_0 16 rfl rfl)
theorem dJ8_indexOf_17 : decode cJ8_indexOf 17 = .ok (.arraylength, 1) := dk_190 (dk_at dksJ8_indexOf_0 17 rfl rfl)
theorem dJ8_indexOf_18 : decode cJ8_indexOf 18 = .ok (.invokestatic 38, 3) := dk_184 0 38 (dk_at dksJ8_indexOf_0 18 rfl rfl)
theorem dJ8_indexOf_21 : decode cJ8_indexOf 21 = .ok (.istore_n 3, 1) := dk_62 (dk_at dksJ8_indexOf_0 21 rfl rfl)
theorem dJ8_indexOf_22 : decode cJ8_indexOf 22 = .ok (.iload_n 2, 1) := dk_28 (dk_at dksJ8_indexOf_0 22 rfl rfl)
theorem dJ8_indexOf_23 : decode cJ8_indexOf 23 = .ok (.iload_n 3, 1) := dk_29 (dk_at dksJ8_indexOf_0 23 rfl rfl)
theorem dJ8_indexOf_24 : decode cJ8_indexOf 24 = .ok (.if_icmp .lt 5, 3) := dk_161 0 5 (dk_at dksJ8_indexOf_1 0 rfl rfl)
theorem dJ8_indexOf_27 : decode cJ8_indexOf 27 = .ok (.iconst (-1), 1) := dk_2 (dk_at dksJ8_indexOf_1 3 rfl rfl)
theorem dJ8_indexOf_28 : decode cJ8_indexOf 28 = .ok (.ireturn, 1) := dk_172 (dk_at dksJ8_indexOf_1 4 rfl rfl)
theorem dJ8_indexOf_29 : decode cJ8_indexOf 29 = .ok (.aload_n 0, 1) := dk_42 (dk_at dksJ8_indexOf_1 5 rfl rfl)
theorem dJ8_indexOf_30 : decode cJ8_indexOf 30 = .ok (.iload_n 1, 1) := dk_27 (dk_at dksJ8_indexOf_1 6 rfl rfl)
theorem dJ8_indexOf_31 : decode cJ8_indexOf 31 = .ok (.iload_n 2, 1) := dk_28 (dk_at dksJ8_indexOf_1 7 rfl rfl)
theorem dJ8_indexOf_32 : decode cJ8_indexOf 32 = .ok (.iload_n 3, 1) := dk_29 (dk_at dksJ8_indexOf_1 8 rfl rfl)
theorem dJ8_indexOf_33 : decode cJ8_indexOf 33 = .ok (.invokestatic 95, 3) := dk_184 0 95 (dk_at dksJ8_indexOf_1 9 rfl rfl)
theorem dJ8_indexOf_36 : decode cJ8_indexOf 36 = .ok (.ireturn, 1) := dk_172 (dk_at dksJ8_indexOf_1 12 rfl rfl)
abbrev cJ8_canEncode : ByteArray := prog_45_method_4_code
def yJ8_canEncode : MethodName := ⟨RJ8, "canEncode", "(I)Z"⟩
def dkwJ8_canEncode_0 : List UInt8 := [26, 155, 0, 14, 26, 17, 0, 255, 163, 0, 7, 4, 167, 0, 4, 3, 172]
abbrev dktJ8_canEncode_0 : List UInt8 := dkwJ8_canEncode_0 ++ []
theorem dksJ8_canEncode_0 : cJ8_canEncode.data.toList.drop 0 = dktJ8_canEncode_0 := by decide +kernel
theorem dJ8_canEncode_0 : decode cJ8_canEncode 0 = .ok (.iload_n 0, 1) := dk_26 (dk_at dksJ8_canEncode_0 0 rfl rfl)
theorem dJ8_canEncode_1 : decode cJ8_canEncode 1 = .ok (.ifCond .lt 14, 3) := dk_155 0 14 (dk_at dksJ8_canEncode_0 1 rfl rfl)
theorem dJ8_canEncode_4 : decode cJ8_canEncode 4 = .ok (.iload_n 0, 1) := dk_26 (dk_at dksJ8_canEncode_0 4 rfl rfl)
theorem dJ8_canEncode_5 : decode cJ8_canEncode 5 = .ok (.sipush 255, 3) := dk_17 0 255 (dk_at dksJ8_canEncode_0 5 rfl rfl)
theorem dJ8_canEncode_8 : decode cJ8_canEncode 8 = .ok (.if_icmp .gt 7, 3) := dk_163 0 7 (dk_at dksJ8_canEncode_0 8 rfl rfl)
theorem dJ8_canEncode_11 : decode cJ8_canEncode 11 = .ok (.iconst 1, 1) := dk_4 (dk_at dksJ8_canEncode_0 11 rfl rfl)
theorem dJ8_canEncode_12 : decode cJ8_canEncode 12 = .ok (.goto 4, 3) := dk_167 0 4 (dk_at dksJ8_canEncode_0 12 rfl rfl)
theorem dJ8_canEncode_15 : decode cJ8_canEncode 15 = .ok (.iconst 0, 1) := dk_3 (dk_at dksJ8_canEncode_0 15 rfl rfl)
theorem dJ8_canEncode_16 : decode cJ8_canEncode 16 = .ok (.ireturn, 1) := dk_172 (dk_at dksJ8_canEncode_0 16 rfl rfl)
abbrev cJ8_indexOfChar : ByteArray := prog_45_method_23_code
def yJ8_indexOfChar : MethodName := ⟨RJ8, "indexOfChar", "([BIII)I"⟩
def dkwJ8_indexOfChar_1 : List UInt8 := [172, 132, 5, 1, 167, 255, 235, 2, 172]
abbrev dktJ8_indexOfChar_1 : List UInt8 := dkwJ8_indexOfChar_1 ++ []
def dkwJ8_indexOfChar_0 : List UInt8 := [27, 145, 54, 4, 28, 54, 5, 21, 5, 29, 162, 0, 21, 42, 21, 5, 51, 21, 4, 160, 0, 6, 21, 5]
abbrev dktJ8_indexOfChar_0 : List UInt8 := dkwJ8_indexOfChar_0 ++ dktJ8_indexOfChar_1
theorem dksJ8_indexOfChar_0 : cJ8_indexOfChar.data.toList.drop 0 = dktJ8_indexOfChar_0 := by decide +kernel
theorem dksJ8_indexOfChar_1 : cJ8_indexOfChar.data.toList.drop 24 = dktJ8_indexOfChar_1 := dk_seg dksJ8_indexOfChar_0 24 rfl rfl
theorem dJ8_indexOfChar_0 : decode cJ8_indexOfChar 0 = .ok (.iload_n 1, 1) := dk_27 (dk_at dksJ8_indexOfChar_0 0 rfl rfl)
theorem dJ8_indexOfChar_1 : decode cJ8_indexOfChar 1 = .ok (.i2b, 1) := dk_145 (dk_at dksJ8_indexOfChar_0 1 rfl rfl)
theorem dJ8_indexOfChar_2 : decode cJ8_indexOfChar 2 = .ok (.istore 4, 2) := dk_54 4 (dk_at dksJ8_indexOfChar_0 2 rfl rfl)
theorem dJ8_indexOfChar_4 : decode cJ8_indexOfChar 4 = .ok (.iload_n 2, 1) := dk_28 (dk_at dksJ8_indexOfChar_0 4 rfl rfl)
theorem dJ8_indexOfChar_5 : decode cJ8_indexOfChar 5 = .ok (.istore 5, 2) := dk_54 5 (dk_at dksJ8_indexOfChar_0 5 rfl rfl)
theorem dJ8_indexOfChar_7 : decode cJ8_indexOfChar 7 = .ok (.iload 5, 2) := dk_21 5 (dk_at dksJ8_indexOfChar_0 7 rfl rfl)
theorem dJ8_indexOfChar_9 : decode cJ8_indexOfChar 9 = .ok (.iload_n 3, 1) := dk_29 (dk_at dksJ8_indexOfChar_0 9 rfl rfl)
theorem dJ8_indexOfChar_10 : decode cJ8_indexOfChar 10 = .ok (.if_icmp .ge 21, 3) := dk_162 0 21 (dk_at dksJ8_indexOfChar_0 10 rfl rfl)
theorem dJ8_indexOfChar_13 : decode cJ8_indexOfChar 13 = .ok (.aload_n 0, 1) := dk_42 (dk_at dksJ8_indexOfChar_0 13 rfl rfl)
theorem dJ8_indexOfChar_14 : decode cJ8_indexOfChar 14 = .ok (.iload 5, 2) := dk_21 5 (dk_at dksJ8_indexOfChar_0 14 rfl rfl)
theorem dJ8_indexOfChar_16 : decode cJ8_indexOfChar 16 = .ok (.baload, 1) := dk_51 (dk_at dksJ8_indexOfChar_0 16 rfl rfl)
theorem dJ8_indexOfChar_17 : decode cJ8_indexOfChar 17 = .ok (.iload 4, 2) := dk_21 4 (dk_at dksJ8_indexOfChar_0 17 rfl rfl)
theorem dJ8_indexOfChar_19 : decode cJ8_indexOfChar 19 = .ok (.if_icmp .ne 6, 3) := dk_160 0 6 (dk_at dksJ8_indexOfChar_0 19 rfl rfl)
theorem dJ8_indexOfChar_22 : decode cJ8_indexOfChar 22 = .ok (.iload 5, 2) := dk_21 5 (dk_at dksJ8_indexOfChar_0 22 rfl rfl)
theorem dJ8_indexOfChar_24 : decode cJ8_indexOfChar 24 = .ok (.ireturn, 1) := dk_172 (dk_at dksJ8_indexOfChar_1 0 rfl rfl)
theorem dJ8_indexOfChar_25 : decode cJ8_indexOfChar 25 = .ok (.iinc 5 1, 3) := dk_132 5 1 (dk_at dksJ8_indexOfChar_1 1 rfl rfl)
theorem dJ8_indexOfChar_28 : decode cJ8_indexOfChar 28 = .ok (.goto (-21), 3) := dk_167 255 235 (dk_at dksJ8_indexOfChar_1 4 rfl rfl)
theorem dJ8_indexOfChar_31 : decode cJ8_indexOfChar 31 = .ok (.iconst (-1), 1) := dk_2 (dk_at dksJ8_indexOfChar_1 7 rfl rfl)
theorem dJ8_indexOfChar_32 : decode cJ8_indexOfChar 32 = .ok (.ireturn, 1) := dk_172 (dk_at dksJ8_indexOfChar_1 8 rfl rfl)
theorem q134 : (Jvm.Cond.initialized "java/lang/StringLatin1") ∈ lw_all := lw_g (lw_at lw_m1 12 rfl) rfl
theorem q415 : (Jvm.Cond.static ({ cls := "java/lang/StringLatin1", name := "compareTo", desc := "([B[B)I" } : Jvm.MethodName)) ∈ lw_all := lw_g (lw_at lw_m2 53 rfl) rfl
theorem q416 : (Jvm.Cond.code ({ cls := "java/lang/StringLatin1", name := "compareTo", desc := "([B[B)I" } : Jvm.MethodName) prog_45_method_14_code (4 : Nat) (Option.some Jvm.ClassFile.FieldType.int)) ∈ lw_all := lw_g (lw_at lw_m2 54 rfl) rfl
theorem q417 : (Jvm.Cond.methodLink "java/lang/StringLatin1" (34 : Nat) ({ cls := "java/lang/StringLatin1", name := "compareTo", desc := "([B[BII)I" } : Jvm.MethodName)) ∈ lw_all := lw_g (lw_at lw_m2 55 rfl) rfl
theorem q418 : (Jvm.Cond.static ({ cls := "java/lang/StringLatin1", name := "compareTo", desc := "([B[BII)I" } : Jvm.MethodName)) ∈ lw_all := lw_g (lw_at lw_m2 56 rfl) rfl
theorem q419 : (Jvm.Cond.code ({ cls := "java/lang/StringLatin1", name := "compareTo", desc := "([B[BII)I" } : Jvm.MethodName) prog_45_method_15_code (6 : Nat) (Option.some Jvm.ClassFile.FieldType.int)) ∈ lw_all := lw_g (lw_at lw_m2 57 rfl) rfl
theorem q420 : (Jvm.Cond.methodLink "java/lang/StringLatin1" (38 : Nat) ({ cls := "java/lang/Math", name := "min", desc := "(II)I" } : Jvm.MethodName)) ∈ lw_all := lw_g (lw_at lw_m2 58 rfl) rfl
theorem q423 : (Jvm.Cond.methodLink "java/lang/StringLatin1" (44 : Nat) ({ cls := "jdk/internal/util/ArraysSupport", name := "mismatch", desc := "([B[BI)I" } : Jvm.MethodName)) ∈ lw_all := lw_g (lw_at lw_m2 61 rfl) rfl
theorem q527 : (Jvm.Cond.methodLink "java/lang/StringLatin1" (50 : Nat) ({ cls := "java/lang/StringLatin1", name := "getChar", desc := "([BI)C" } : Jvm.MethodName)) ∈ lw_all := lw_g (lw_at lw_m2 165 rfl) rfl
theorem q528 : (Jvm.Cond.static ({ cls := "java/lang/StringLatin1", name := "getChar", desc := "([BI)C" } : Jvm.MethodName)) ∈ lw_all := lw_g (lw_at lw_m2 166 rfl) rfl
theorem q529 : (Jvm.Cond.code ({ cls := "java/lang/StringLatin1", name := "getChar", desc := "([BI)C" } : Jvm.MethodName) prog_45_method_44_code (2 : Nat) (Option.some Jvm.ClassFile.FieldType.char)) ∈ lw_all := lw_g (lw_at lw_m2 167 rfl) rfl
theorem q550 : (Jvm.Cond.static ({ cls := "java/lang/StringLatin1", name := "compareToUTF16", desc := "([B[B)I" } : Jvm.MethodName)) ∈ lw_all := lw_g (lw_at lw_m2 188 rfl) rfl
theorem q551 : (Jvm.Cond.code ({ cls := "java/lang/StringLatin1", name := "compareToUTF16", desc := "([B[B)I" } : Jvm.MethodName) prog_45_method_16_code (4 : Nat) (Option.some Jvm.ClassFile.FieldType.int)) ∈ lw_all := lw_g (lw_at lw_m2 189 rfl) rfl
theorem q552 : (Jvm.Cond.methodLink "java/lang/StringLatin1" (54 : Nat) ({ cls := "java/lang/StringLatin1", name := "length", desc := "([B)I" } : Jvm.MethodName)) ∈ lw_all := lw_g (lw_at lw_m2 190 rfl) rfl
theorem q553 : (Jvm.Cond.static ({ cls := "java/lang/StringLatin1", name := "length", desc := "([B)I" } : Jvm.MethodName)) ∈ lw_all := lw_g (lw_at lw_m2 191 rfl) rfl
theorem q554 : (Jvm.Cond.code ({ cls := "java/lang/StringLatin1", name := "length", desc := "([B)I" } : Jvm.MethodName) prog_45_method_5_code (1 : Nat) (Option.some Jvm.ClassFile.FieldType.int)) ∈ lw_all := lw_g (lw_at lw_m2 192 rfl) rfl
theorem q555 : (Jvm.Cond.methodLink "java/lang/StringLatin1" (58 : Nat) ({ cls := "java/lang/StringUTF16", name := "length", desc := "([B)I" } : Jvm.MethodName)) ∈ lw_all := lw_g (lw_at lw_m2 193 rfl) rfl
theorem q556 : (Jvm.Cond.methodLink "java/lang/StringLatin1" (59 : Nat) ({ cls := "java/lang/StringLatin1", name := "compareToUTF16Values", desc := "([B[BII)I" } : Jvm.MethodName)) ∈ lw_all := lw_g (lw_at lw_m2 194 rfl) rfl
theorem q557 : (Jvm.Cond.static ({ cls := "java/lang/StringLatin1", name := "compareToUTF16Values", desc := "([B[BII)I" } : Jvm.MethodName)) ∈ lw_all := lw_g (lw_at lw_m2 195 rfl) rfl
theorem q558 : (Jvm.Cond.code ({ cls := "java/lang/StringLatin1", name := "compareToUTF16Values", desc := "([B[BII)I" } : Jvm.MethodName) prog_45_method_18_code (8 : Nat) (Option.some Jvm.ClassFile.FieldType.int)) ∈ lw_all := lw_g (lw_at lw_m2 196 rfl) rfl
theorem q559 : (Jvm.Cond.methodLink "java/lang/StringLatin1" (65 : Nat) ({ cls := "java/lang/StringUTF16", name := "getChar", desc := "([BI)C" } : Jvm.MethodName)) ∈ lw_all := lw_g (lw_at lw_m2 197 rfl) rfl
theorem q601 : (Jvm.Cond.static ({ cls := "java/lang/StringLatin1", name := "compareToUTF16", desc := "([B[BII)I" } : Jvm.MethodName)) ∈ lw_all := lw_g (lw_at lw_m2 239 rfl) rfl
theorem q602 : (Jvm.Cond.code ({ cls := "java/lang/StringLatin1", name := "compareToUTF16", desc := "([B[BII)I" } : Jvm.MethodName) prog_45_method_17_code (4 : Nat) (Option.some Jvm.ClassFile.FieldType.int)) ∈ lw_all := lw_g (lw_at lw_m3 0 rfl) rfl
theorem q603 : (Jvm.Cond.methodLink "java/lang/StringLatin1" (62 : Nat) ({ cls := "java/lang/String", name := "checkOffset", desc := "(II)V" } : Jvm.MethodName)) ∈ lw_all := lw_g (lw_at lw_m3 1 rfl) rfl
theorem q797 : (Jvm.Cond.static ({ cls := "java/lang/StringLatin1", name := "equals", desc := "([B[B)Z" } : Jvm.MethodName)) ∈ lw_all := lw_g (lw_at lw_m3 195 rfl) rfl
theorem q798 : (Jvm.Cond.code ({ cls := "java/lang/StringLatin1", name := "equals", desc := "([B[B)Z" } : Jvm.MethodName) prog_45_method_13_code (3 : Nat) (Option.some Jvm.ClassFile.FieldType.boolean)) ∈ lw_all := lw_g (lw_at lw_m3 196 rfl) rfl
theorem q1766 : (Jvm.Cond.static ({ cls := "java/lang/StringLatin1", name := "inflate", desc := "([BI[BII)V" } : Jvm.MethodName)) ∈ lw_all := lw_g (lw_at lw_m7 204 rfl) rfl
theorem q1767 : (Jvm.Cond.code ({ cls := "java/lang/StringLatin1", name := "inflate", desc := "([BI[BII)V" } : Jvm.MethodName) prog_45_method_50_code (5 : Nat) (Option.none : Option Jvm.ClassFile.FieldType)) ∈ lw_all := lw_g (lw_at lw_m7 205 rfl) rfl
theorem q1768 : (Jvm.Cond.methodLink "java/lang/StringLatin1" (240 : Nat) ({ cls := "java/lang/StringUTF16", name := "inflate", desc := "([BI[BII)V" } : Jvm.MethodName)) ∈ lw_all := lw_g (lw_at lw_m7 206 rfl) rfl
theorem q2525 : (Jvm.Cond.static ({ cls := "java/lang/StringLatin1", name := "indexOf", desc := "([BIII)I" } : Jvm.MethodName)) ∈ lw_all := lw_g (lw_at lw_m11 3 rfl) rfl
theorem q2526 : (Jvm.Cond.code ({ cls := "java/lang/StringLatin1", name := "indexOf", desc := "([BIII)I" } : Jvm.MethodName) prog_45_method_22_code (4 : Nat) (Option.some Jvm.ClassFile.FieldType.int)) ∈ lw_all := lw_g (lw_at lw_m11 4 rfl) rfl
theorem q2527 : (Jvm.Cond.methodLink "java/lang/StringLatin1" (88 : Nat) ({ cls := "java/lang/StringLatin1", name := "canEncode", desc := "(I)Z" } : Jvm.MethodName)) ∈ lw_all := lw_g (lw_at lw_m11 5 rfl) rfl
theorem q2528 : (Jvm.Cond.static ({ cls := "java/lang/StringLatin1", name := "canEncode", desc := "(I)Z" } : Jvm.MethodName)) ∈ lw_all := lw_g (lw_at lw_m11 6 rfl) rfl
theorem q2529 : (Jvm.Cond.code ({ cls := "java/lang/StringLatin1", name := "canEncode", desc := "(I)Z" } : Jvm.MethodName) prog_45_method_4_code (1 : Nat) (Option.some Jvm.ClassFile.FieldType.boolean)) ∈ lw_all := lw_g (lw_at lw_m11 7 rfl) rfl
theorem q2530 : (Jvm.Cond.methodLink "java/lang/StringLatin1" (92 : Nat) ({ cls := "java/lang/Math", name := "max", desc := "(II)I" } : Jvm.MethodName)) ∈ lw_all := lw_g (lw_at lw_m11 8 rfl) rfl
theorem q2531 : (Jvm.Cond.methodLink "java/lang/StringLatin1" (95 : Nat) ({ cls := "java/lang/StringLatin1", name := "indexOfChar", desc := "([BIII)I" } : Jvm.MethodName)) ∈ lw_all := lw_g (lw_at lw_m11 9 rfl) rfl
theorem q2532 : (Jvm.Cond.static ({ cls := "java/lang/StringLatin1", name := "indexOfChar", desc := "([BIII)I" } : Jvm.MethodName)) ∈ lw_all := lw_g (lw_at lw_m11 10 rfl) rfl
theorem q2533 : (Jvm.Cond.code ({ cls := "java/lang/StringLatin1", name := "indexOfChar", desc := "([BIII)I" } : Jvm.MethodName) prog_45_method_23_code (6 : Nat) (Option.some Jvm.ClassFile.FieldType.int)) ∈ lw_all := lw_g (lw_at lw_m11 11 rfl) rfl

/-! java/lang/Math -/
set_option maxRecDepth 100000
def RJ9 : String := "java/lang/Math"
abbrev cJ9_min : ByteArray := prog_40_method_69_code
def yJ9_min : MethodName := ⟨RJ9, "min", "(II)I"⟩
def dkwJ9_min_0 : List UInt8 := [26, 27, 163, 0, 7, 26, 167, 0, 4, 27, 172]
abbrev dktJ9_min_0 : List UInt8 := dkwJ9_min_0 ++ []
theorem dksJ9_min_0 : cJ9_min.data.toList.drop 0 = dktJ9_min_0 := by decide +kernel
theorem dJ9_min_0 : decode cJ9_min 0 = .ok (.iload_n 0, 1) := dk_26 (dk_at dksJ9_min_0 0 rfl rfl)
theorem dJ9_min_1 : decode cJ9_min 1 = .ok (.iload_n 1, 1) := dk_27 (dk_at dksJ9_min_0 1 rfl rfl)
theorem dJ9_min_2 : decode cJ9_min 2 = .ok (.if_icmp .gt 7, 3) := dk_163 0 7 (dk_at dksJ9_min_0 2 rfl rfl)
theorem dJ9_min_5 : decode cJ9_min 5 = .ok (.iload_n 0, 1) := dk_26 (dk_at dksJ9_min_0 5 rfl rfl)
theorem dJ9_min_6 : decode cJ9_min 6 = .ok (.goto 4, 3) := dk_167 0 4 (dk_at dksJ9_min_0 6 rfl rfl)
theorem dJ9_min_9 : decode cJ9_min 9 = .ok (.iload_n 1, 1) := dk_27 (dk_at dksJ9_min_0 9 rfl rfl)
theorem dJ9_min_10 : decode cJ9_min 10 = .ok (.ireturn, 1) := dk_172 (dk_at dksJ9_min_0 10 rfl rfl)
abbrev cJ9_max : ByteArray := prog_40_method_65_code
def yJ9_max : MethodName := ⟨RJ9, "max", "(II)I"⟩
def dkwJ9_max_0 : List UInt8 := [26, 27, 161, 0, 7, 26, 167, 0, 4, 27, 172]
abbrev dktJ9_max_0 : List UInt8 := dkwJ9_max_0 ++ []
theorem dksJ9_max_0 : cJ9_max.data.toList.drop 0 = dktJ9_max_0 := by decide +kernel
theorem dJ9_max_0 : decode cJ9_max 0 = .ok (.iload_n 0, 1) := dk_26 (dk_at dksJ9_max_0 0 rfl rfl)
theorem dJ9_max_1 : decode cJ9_max 1 = .ok (.iload_n 1, 1) := dk_27 (dk_at dksJ9_max_0 1 rfl rfl)
theorem dJ9_max_2 : decode cJ9_max 2 = .ok (.if_icmp .lt 7, 3) := dk_161 0 7 (dk_at dksJ9_max_0 2 rfl rfl)
theorem dJ9_max_5 : decode cJ9_max 5 = .ok (.iload_n 0, 1) := dk_26 (dk_at dksJ9_max_0 5 rfl rfl)
theorem dJ9_max_6 : decode cJ9_max 6 = .ok (.goto 4, 3) := dk_167 0 4 (dk_at dksJ9_max_0 6 rfl rfl)
theorem dJ9_max_9 : decode cJ9_max 9 = .ok (.iload_n 1, 1) := dk_27 (dk_at dksJ9_max_0 9 rfl rfl)
theorem dJ9_max_10 : decode cJ9_max 10 = .ok (.ireturn, 1) := dk_172 (dk_at dksJ9_max_0 10 rfl rfl)
theorem q135 : (Jvm.Cond.initialized "java/lang/Math") ∈ lw_all := lw_g (lw_at lw_m1 13 rfl) rfl
theorem q421 : (Jvm.Cond.static ({ cls := "java/lang/Math", name := "min", desc := "(II)I" } : Jvm.MethodName)) ∈ lw_all := lw_g (lw_at lw_m2 59 rfl) rfl
theorem q422 : (Jvm.Cond.code ({ cls := "java/lang/Math", name := "min", desc := "(II)I" } : Jvm.MethodName) prog_40_method_69_code (2 : Nat) (Option.some Jvm.ClassFile.FieldType.int)) ∈ lw_all := lw_g (lw_at lw_m2 60 rfl) rfl
theorem q1223 : (Jvm.Cond.static ({ cls := "java/lang/Math", name := "max", desc := "(II)I" } : Jvm.MethodName)) ∈ lw_all := lw_g (lw_at lw_m5 141 rfl) rfl
theorem q1224 : (Jvm.Cond.code ({ cls := "java/lang/Math", name := "max", desc := "(II)I" } : Jvm.MethodName) prog_40_method_65_code (2 : Nat) (Option.some Jvm.ClassFile.FieldType.int)) ∈ lw_all := lw_g (lw_at lw_m5 142 rfl) rfl

theorem q157 : (Jvm.Cond.initialized "PointerAnalyzer$Kind") ∈ lw_all := lw_g (lw_at lw_m1 35 rfl) rfl
set_option maxRecDepth 100000
theorem q323 : (Jvm.Cond.castable "PointerAnalyzer$Kind" "java/lang/Comparable") ∈ lw_tbl := lw_at lw_m1 201 rfl
theorem q324 : (Jvm.Cond.selects "PointerAnalyzer$Kind" ({ cls := "java/lang/Comparable", name := "compareTo", desc := "(Ljava/lang/Object;)I" } : Jvm.MethodName) ({ cls := "java/lang/Enum", name := "compareTo", desc := "(Ljava/lang/Object;)I" } : Jvm.MethodName)) ∈ lw_all := lw_g (lw_at lw_m1 202 rfl) rfl
theorem q325 : (Jvm.Cond.unhidden "PointerAnalyzer$Kind" "compareTo" "(Ljava/lang/Object;)I") ∈ lw_tbl := lw_at lw_m1 203 rfl
theorem q333 : (Jvm.Cond.selects "PointerAnalyzer$Kind" ({ cls := "java/lang/Enum", name := "compareTo", desc := "(Ljava/lang/Enum;)I" } : Jvm.MethodName) ({ cls := "java/lang/Enum", name := "compareTo", desc := "(Ljava/lang/Enum;)I" } : Jvm.MethodName)) ∈ lw_all := lw_g (lw_at lw_m1 211 rfl) rfl
theorem q345 : (Jvm.Cond.selects "PointerAnalyzer$Kind" ({ cls := "java/lang/Object", name := "getClass", desc := "()Ljava/lang/Class;" } : Jvm.MethodName) ({ cls := "java/lang/Object", name := "getClass", desc := "()Ljava/lang/Class;" } : Jvm.MethodName)) ∈ lw_all := lw_g (lw_at lw_m1 223 rfl) rfl
theorem q384 : (Jvm.Cond.selects "PointerAnalyzer$Kind" ({ cls := "java/lang/Enum", name := "getDeclaringClass", desc := "()Ljava/lang/Class;" } : Jvm.MethodName) ({ cls := "java/lang/Enum", name := "getDeclaringClass", desc := "()Ljava/lang/Class;" } : Jvm.MethodName)) ∈ lw_all := lw_g (lw_at lw_m2 22 rfl) rfl
theorem q766 : (Jvm.Cond.selects "PointerAnalyzer$Kind" ({ cls := "java/lang/Object", name := "equals", desc := "(Ljava/lang/Object;)Z" } : Jvm.MethodName) ({ cls := "java/lang/Enum", name := "equals", desc := "(Ljava/lang/Object;)Z" } : Jvm.MethodName)) ∈ lw_all := lw_g (lw_at lw_m3 164 rfl) rfl
theorem q1166 : (Jvm.Cond.laysStatic "PointerAnalyzer$Kind" "ALLOCATION" "LPointerAnalyzer$Kind;") ∈ lw_tbl := lw_at lw_m5 84 rfl
theorem q1405 : (Jvm.Cond.laysStatic "PointerAnalyzer$Kind" "CALL" "LPointerAnalyzer$Kind;") ∈ lw_tbl := lw_at lw_m6 83 rfl
theorem q1657 : (Jvm.Cond.sameMethod "PointerAnalyzer$Kind" "java/lang/Enum" "ordinal" "()I") ∈ lw_all := lw_g (lw_at lw_m7 95 rfl) rfl
theorem q1659 : (Jvm.Cond.selects "PointerAnalyzer$Kind" ({ cls := "PointerAnalyzer$Kind", name := "ordinal", desc := "()I" } : Jvm.MethodName) ({ cls := "java/lang/Enum", name := "ordinal", desc := "()I" } : Jvm.MethodName)) ∈ lw_all := lw_g (lw_at lw_m7 97 rfl) rfl
theorem q2586 : (Jvm.Cond.laysStatic "PointerAnalyzer$Kind" "ADDRESS" "LPointerAnalyzer$Kind;") ∈ lw_tbl := lw_at lw_m11 64 rfl
theorem q2629 : (Jvm.Cond.laysStatic "PointerAnalyzer$Kind" "LOAD" "LPointerAnalyzer$Kind;") ∈ lw_tbl := lw_at lw_m11 107 rfl
theorem q2638 : (Jvm.Cond.laysStatic "PointerAnalyzer$Kind" "OFFSET" "LPointerAnalyzer$Kind;") ∈ lw_tbl := lw_at lw_m11 116 rfl
theorem q2640 : (Jvm.Cond.laysStatic "PointerAnalyzer$Kind" "COPY" "LPointerAnalyzer$Kind;") ∈ lw_tbl := lw_at lw_m11 118 rfl
theorem q2642 : (Jvm.Cond.laysStatic "PointerAnalyzer$Kind" "STORE" "LPointerAnalyzer$Kind;") ∈ lw_tbl := lw_at lw_m11 120 rfl
theorem q3458 : (Jvm.Cond.castable "PointerAnalyzer$Kind" "java/lang/Enum") ∈ lw_tbl := lw_at lw_m14 216 rfl
theorem q3473 : (Jvm.Cond.castable "PointerAnalyzer$Kind" "java/lang/Object") ∈ lw_tbl := lw_at lw_m14 231 rfl

theorem q1730 : (Jvm.Cond.sameMethod "[B" "java/lang/Object" "clone" "()Ljava/lang/Object;") ∈ lw_all := lw_g (lw_at lw_m7 168 rfl) rfl
set_option maxRecDepth 100000
theorem q1733 : (Jvm.Cond.selects "[B" ({ cls := "[B", name := "clone", desc := "()Ljava/lang/Object;" } : Jvm.MethodName) ({ cls := "java/lang/Object", name := "clone", desc := "()Ljava/lang/Object;" } : Jvm.MethodName)) ∈ lw_all := lw_g (lw_at lw_m7 171 rfl) rfl
theorem q1734 : (Jvm.Cond.castable "[B" "java/lang/Cloneable") ∈ lw_tbl := lw_at lw_m7 172 rfl
theorem q3510 : (Jvm.Cond.castable "[B" "java/lang/Object") ∈ lw_tbl := lw_at lw_m15 28 rfl

theorem q3507 : (Jvm.Cond.castable "[C" "java/lang/Object") ∈ lw_tbl := lw_at lw_m15 25 rfl
set_option maxRecDepth 100000

theorem q3516 : (Jvm.Cond.castable "[D" "java/lang/Object") ∈ lw_tbl := lw_at lw_m15 34 rfl
set_option maxRecDepth 100000

theorem q3508 : (Jvm.Cond.castable "[I" "java/lang/Object") ∈ lw_tbl := lw_at lw_m15 26 rfl
set_option maxRecDepth 100000

theorem q1906 : (Jvm.Cond.sameMethod "[J" "java/lang/Object" "clone" "()Ljava/lang/Object;") ∈ lw_all := lw_g (lw_at lw_m8 104 rfl) rfl
set_option maxRecDepth 100000
theorem q1907 : (Jvm.Cond.selects "[J" ({ cls := "[J", name := "clone", desc := "()Ljava/lang/Object;" } : Jvm.MethodName) ({ cls := "java/lang/Object", name := "clone", desc := "()Ljava/lang/Object;" } : Jvm.MethodName)) ∈ lw_all := lw_g (lw_at lw_m8 105 rfl) rfl
theorem q1908 : (Jvm.Cond.castable "[J" "java/lang/Cloneable") ∈ lw_tbl := lw_at lw_m8 106 rfl
theorem q3509 : (Jvm.Cond.castable "[J" "java/lang/Object") ∈ lw_tbl := lw_at lw_m15 27 rfl

theorem q3515 : (Jvm.Cond.castable "[LPointerAnalyzer$Place;" "java/lang/Object") ∈ lw_tbl := lw_at lw_m15 33 rfl
set_option maxRecDepth 100000

theorem q3514 : (Jvm.Cond.castable "[LPointerAnalyzer$Term;" "java/lang/Object") ∈ lw_tbl := lw_at lw_m15 32 rfl
set_option maxRecDepth 100000

theorem q3504 : (Jvm.Cond.sameMethod "[Ljava/lang/Object;" "java/lang/Object" "getClass" "()Ljava/lang/Class;") ∈ lw_all := lw_g (lw_at lw_m15 22 rfl) rfl
set_option maxRecDepth 100000
theorem q3505 : (Jvm.Cond.selects "[Ljava/lang/Object;" ({ cls := "java/lang/Object", name := "getClass", desc := "()Ljava/lang/Class;" } : Jvm.MethodName) ({ cls := "java/lang/Object", name := "getClass", desc := "()Ljava/lang/Class;" } : Jvm.MethodName)) ∈ lw_all := lw_g (lw_at lw_m15 23 rfl) rfl
theorem q3506 : (Jvm.Cond.castable "[Ljava/lang/Object;" "java/lang/Object") ∈ lw_tbl := lw_at lw_m15 24 rfl

theorem q3511 : (Jvm.Cond.castable "[Ljava/util/BitSet;" "java/lang/Object") ∈ lw_tbl := lw_at lw_m15 29 rfl
set_option maxRecDepth 100000

theorem q3513 : (Jvm.Cond.castable "[Z" "java/lang/Object") ∈ lw_tbl := lw_at lw_m15 31 rfl
set_option maxRecDepth 100000

theorem q3512 : (Jvm.Cond.castable "[[I" "java/lang/Object") ∈ lw_tbl := lw_at lw_m15 30 rfl
set_option maxRecDepth 100000

theorem q307 : (Jvm.Cond.interfaceMethod "java/lang/Comparable" "java/lang/Comparable" "compareTo" "(Ljava/lang/Object;)I") ∈ lw_tbl := lw_at lw_m1 185 rfl
set_option maxRecDepth 100000
theorem q308 : (Jvm.Cond.declares ({ cls := "java/lang/Comparable", name := "compareTo", desc := "(Ljava/lang/Object;)I" } : Jvm.MethodName)) ∈ lw_tbl := lw_at lw_m1 186 rfl

theorem q132 : (Jvm.Cond.initialized "java/lang/Integer$IntegerCache") ∈ lw_all := lw_g (lw_at lw_m1 10 rfl) rfl
set_option maxRecDepth 100000
theorem q272 : (Jvm.Cond.laysStatic "java/lang/Integer$IntegerCache" "high" "I") ∈ lw_tbl := lw_at lw_m1 150 rfl
theorem q274 : (Jvm.Cond.laysStatic "java/lang/Integer$IntegerCache" "cache" "[Ljava/lang/Integer;") ∈ lw_tbl := lw_at lw_m1 152 rfl

theorem q159 : (Jvm.Cond.initialized "java/lang/System") ∈ lw_all := lw_g (lw_at lw_m1 37 rfl) rfl
set_option maxRecDepth 100000
theorem q1241 : (Jvm.Cond.static ({ cls := "java/lang/System", name := "arraycopy", desc := "(Ljava/lang/Object;ILjava/lang/Object;II)V" } : Jvm.MethodName)) ∈ lw_all := lw_g (lw_at lw_m5 159 rfl) rfl
theorem q1242 : (Jvm.Cond.native ({ cls := "java/lang/System", name := "arraycopy", desc := "(Ljava/lang/Object;ILjava/lang/Object;II)V" } : Jvm.MethodName)) ∈ lw_all := lw_g (lw_at lw_m5 160 rfl) rfl

theorem q1416 : (Jvm.Cond.interfaceMethod "java/util/Collection" "java/util/Collection" "toArray" "()[Ljava/lang/Object;") ∈ lw_tbl := lw_at lw_m6 94 rfl
set_option maxRecDepth 100000
theorem q1417 : (Jvm.Cond.declares ({ cls := "java/util/Collection", name := "toArray", desc := "()[Ljava/lang/Object;" } : Jvm.MethodName)) ∈ lw_tbl := lw_at lw_m6 95 rfl
theorem q1531 : (Jvm.Cond.interfaceMethod "java/util/Collection" "java/lang/Object" "getClass" "()Ljava/lang/Class;") ∈ lw_tbl := lw_at lw_m6 209 rfl

theorem q610 : (Jvm.Cond.interfaceMethod "java/util/Comparator" "java/util/Comparator" "compare" "(Ljava/lang/Object;Ljava/lang/Object;)I") ∈ lw_tbl := lw_at lw_m3 8 rfl
set_option maxRecDepth 100000
theorem q611 : (Jvm.Cond.declares ({ cls := "java/util/Comparator", name := "compare", desc := "(Ljava/lang/Object;Ljava/lang/Object;)I" } : Jvm.MethodName)) ∈ lw_tbl := lw_at lw_m3 9 rfl

theorem q935 : (Jvm.Cond.interfaceMethod "java/util/Iterator" "java/util/Iterator" "next" "()Ljava/lang/Object;") ∈ lw_tbl := lw_at lw_m4 93 rfl
set_option maxRecDepth 100000
theorem q936 : (Jvm.Cond.declares ({ cls := "java/util/Iterator", name := "next", desc := "()Ljava/lang/Object;" } : Jvm.MethodName)) ∈ lw_tbl := lw_at lw_m4 94 rfl
theorem q1097 : (Jvm.Cond.interfaceMethod "java/util/Iterator" "java/util/Iterator" "hasNext" "()Z") ∈ lw_tbl := lw_at lw_m5 15 rfl
theorem q1098 : (Jvm.Cond.declares ({ cls := "java/util/Iterator", name := "hasNext", desc := "()Z" } : Jvm.MethodName)) ∈ lw_tbl := lw_at lw_m5 16 rfl

theorem q731 : (Jvm.Cond.interfaceMethod "java/util/Map" "java/util/Map" "size" "()I") ∈ lw_tbl := lw_at lw_m3 129 rfl
set_option maxRecDepth 100000
theorem q732 : (Jvm.Cond.declares ({ cls := "java/util/Map", name := "size", desc := "()I" } : Jvm.MethodName)) ∈ lw_tbl := lw_at lw_m3 130 rfl
theorem q804 : (Jvm.Cond.interfaceMethod "java/util/Map" "java/util/Map" "entrySet" "()Ljava/util/Set;") ∈ lw_tbl := lw_at lw_m3 202 rfl
theorem q805 : (Jvm.Cond.declares ({ cls := "java/util/Map", name := "entrySet", desc := "()Ljava/util/Set;" } : Jvm.MethodName)) ∈ lw_tbl := lw_at lw_m3 203 rfl
theorem q1397 : (Jvm.Cond.publicMethod ({ cls := "java/util/Map", name := "put", desc := "(Ljava/lang/Object;Ljava/lang/Object;)Ljava/lang/Object;" } : Jvm.MethodName)) ∈ lw_tbl := lw_at lw_m6 75 rfl
theorem q1398 : (Jvm.Cond.declares ({ cls := "java/util/Map", name := "put", desc := "(Ljava/lang/Object;Ljava/lang/Object;)Ljava/lang/Object;" } : Jvm.MethodName)) ∈ lw_tbl := lw_at lw_m6 76 rfl
theorem q1452 : (Jvm.Cond.publicMethod ({ cls := "java/util/Map", name := "size", desc := "()I" } : Jvm.MethodName)) ∈ lw_tbl := lw_at lw_m6 130 rfl

theorem q1071 : (Jvm.Cond.interfaceMethod "java/util/Map$Entry" "java/util/Map$Entry" "getKey" "()Ljava/lang/Object;") ∈ lw_tbl := lw_at lw_m4 229 rfl
set_option maxRecDepth 100000
theorem q1072 : (Jvm.Cond.declares ({ cls := "java/util/Map$Entry", name := "getKey", desc := "()Ljava/lang/Object;" } : Jvm.MethodName)) ∈ lw_tbl := lw_at lw_m4 230 rfl
theorem q1081 : (Jvm.Cond.interfaceMethod "java/util/Map$Entry" "java/util/Map$Entry" "getValue" "()Ljava/lang/Object;") ∈ lw_tbl := lw_at lw_m4 239 rfl
theorem q1082 : (Jvm.Cond.declares ({ cls := "java/util/Map$Entry", name := "getValue", desc := "()Ljava/lang/Object;" } : Jvm.MethodName)) ∈ lw_tbl := lw_at lw_m5 0 rfl

theorem q895 : (Jvm.Cond.interfaceMethod "java/util/NavigableMap" "java/util/NavigableMap" "navigableKeySet" "()Ljava/util/NavigableSet;") ∈ lw_tbl := lw_at lw_m4 53 rfl
set_option maxRecDepth 100000
theorem q896 : (Jvm.Cond.declares ({ cls := "java/util/NavigableMap", name := "navigableKeySet", desc := "()Ljava/util/NavigableSet;" } : Jvm.MethodName)) ∈ lw_tbl := lw_at lw_m4 54 rfl

theorem q915 : (Jvm.Cond.interfaceMethod "java/util/NavigableSet" "java/util/NavigableSet" "iterator" "()Ljava/util/Iterator;") ∈ lw_tbl := lw_at lw_m4 73 rfl
set_option maxRecDepth 100000
theorem q916 : (Jvm.Cond.declares ({ cls := "java/util/NavigableSet", name := "iterator", desc := "()Ljava/util/Iterator;" } : Jvm.MethodName)) ∈ lw_tbl := lw_at lw_m4 74 rfl

theorem q826 : (Jvm.Cond.interfaceMethod "java/util/Set" "java/util/Set" "iterator" "()Ljava/util/Iterator;") ∈ lw_tbl := lw_at lw_m3 224 rfl
set_option maxRecDepth 100000
theorem q827 : (Jvm.Cond.declares ({ cls := "java/util/Set", name := "iterator", desc := "()Ljava/util/Iterator;" } : Jvm.MethodName)) ∈ lw_tbl := lw_at lw_m3 225 rfl

theorem q742 : (Jvm.Cond.interfaceMethod "java/util/SortedMap" "java/util/SortedMap" "comparator" "()Ljava/util/Comparator;") ∈ lw_tbl := lw_at lw_m3 140 rfl
set_option maxRecDepth 100000
theorem q743 : (Jvm.Cond.declares ({ cls := "java/util/SortedMap", name := "comparator", desc := "()Ljava/util/Comparator;" } : Jvm.MethodName)) ∈ lw_tbl := lw_at lw_m3 141 rfl

theorem q885 : (Jvm.Cond.declares ({ cls := "java/util/TreeMap$NavigableSubMap", name := "keyIterator", desc := "()Ljava/util/Iterator;" } : Jvm.MethodName)) ∈ lw_tbl := lw_at lw_m4 43 rfl
set_option maxRecDepth 100000
theorem q886 : (Jvm.Cond.selects "java/util/TreeMap$NavigableSubMap" ({ cls := "java/util/TreeMap$NavigableSubMap", name := "keyIterator", desc := "()Ljava/util/Iterator;" } : Jvm.MethodName) ({ cls := "java/util/TreeMap$NavigableSubMap", name := "keyIterator", desc := "()Ljava/util/Iterator;" } : Jvm.MethodName)) ∈ lw_all := lw_g (lw_at lw_m4 44 rfl) rfl

theorem q138 : (Jvm.Cond.initialized "jdk/internal/misc/UnsafeConstants") ∈ lw_all := lw_g (lw_at lw_m1 16 rfl) rfl
set_option maxRecDepth 100000
theorem q463 : (Jvm.Cond.laysStatic "jdk/internal/misc/UnsafeConstants" "BIG_ENDIAN" "Z") ∈ lw_tbl := lw_at lw_m2 101 rfl

theorem q1237 : (Jvm.Cond.arrayOver (Jvm.ClassFile.FieldType.object "java/lang/Object")) ∈ lw_tbl := lw_at lw_m5 155 rfl
set_option maxRecDepth 100000
theorem q1275 : (Jvm.Cond.arrayClass Jvm.ClassFile.FieldType.char) ∈ lw_all := lw_g (lw_at lw_m5 193 rfl) rfl
theorem q1314 : (Jvm.Cond.arrayClass Jvm.ClassFile.FieldType.int) ∈ lw_all := lw_g (lw_at lw_m5 232 rfl) rfl
theorem q1594 : (Jvm.Cond.arrayClass Jvm.ClassFile.FieldType.long) ∈ lw_all := lw_g (lw_at lw_m7 32 rfl) rfl
theorem q1703 : (Jvm.Cond.arrayClass Jvm.ClassFile.FieldType.byte) ∈ lw_all := lw_g (lw_at lw_m7 141 rfl) rfl
theorem q1943 : (Jvm.Cond.arrayOver (Jvm.ClassFile.FieldType.object "java/util/BitSet")) ∈ lw_tbl := lw_at lw_m8 141 rfl
theorem q2155 : (Jvm.Cond.arrayOver (Jvm.ClassFile.FieldType.array Jvm.ClassFile.FieldType.int)) ∈ lw_tbl := lw_at lw_m9 113 rfl
theorem q2199 : (Jvm.Cond.arrayClass Jvm.ClassFile.FieldType.boolean) ∈ lw_all := lw_g (lw_at lw_m9 157 rfl) rfl
theorem q2211 : (Jvm.Cond.arrayOver (Jvm.ClassFile.FieldType.object "PointerAnalyzer$Term")) ∈ lw_tbl := lw_at lw_m9 169 rfl
theorem q2271 : (Jvm.Cond.arrayOver (Jvm.ClassFile.FieldType.object "PointerAnalyzer$Place")) ∈ lw_tbl := lw_at lw_m9 229 rfl
theorem q3442 : (Jvm.Cond.arrayClass Jvm.ClassFile.FieldType.double) ∈ lw_all := lw_g (lw_at lw_m14 200 rfl) rfl
