/-! DECODE ROWS BY BYTES: one lemma an opcode; a method's code is cut into short pieces once, and a row reads its own piece alone. -/
set_option maxRecDepth 100000
/-- the code has just these bytes from pc on -/
def DkAt (code : ByteArray) (pc : Nat) (bs : List UInt8) : Prop := ∀ (j : Nat) (b : UInt8), bs[j]? = some b → code.data.toList[pc + j]? = some b
/-- the piece W has the bytes bs from its place j on -/
def dkIn (W : List UInt8) (j : Nat) (bs : List UInt8) : Bool := decide ((W.drop j).take bs.length = bs)
theorem dk_seg {l W T : List UInt8} {o o2 : Nat} (h : l.drop o = W ++ T) (n : Nat) (hn : W.length = n) (ho : o + n = o2) : l.drop o2 = T := by
  subst ho
  rw [← List.drop_drop, h, List.drop_left' hn]
theorem dk_at {code : ByteArray} {W T bs : List UInt8} {o pc : Nat} (h : code.data.toList.drop o = W ++ T) (j : Nat) (hp : o + j = pc) (hw : dkIn W j bs = true) : DkAt code pc bs := by
  subst hp
  intro i b e
  have h1 := of_decide_eq_true hw
  have h2 : i < bs.length := (List.getElem?_eq_some_iff.mp e).1
  have h3 : W[j + i]? = some b := by
    rw [← h1, List.getElem?_take, if_pos h2, List.getElem?_drop] at e
    exact e
  have h4 : j + i < W.length := (List.getElem?_eq_some_iff.mp h3).1
  have h5 : (code.data.toList.drop o)[j + i]? = some b := by
    rw [h, List.getElem?_append_left h4]
    exact h3
  rw [List.getElem?_drop, ← Nat.add_assoc] at h5
  exact h5
theorem dk_u1 {A : ByteArray} {p : Nat} {b : UInt8} (h : A.data.toList[p]? = some b) : (Reader.u1 : Reader DecodeError Nat) A p = .ok (b.toNat, p + 1) := by
  obtain ⟨h1, h2⟩ := List.getElem?_eq_some_iff.mp h
  have h3 : p < A.size := by simpa using h1
  have h4 : A[p]'h3 = b := h2
  have e : (Reader.u1 : Reader DecodeError Nat) A p = (if h : p < A.size then .ok (A[p].toNat, p + 1) else .error (HasTruncated.truncated p)) := by
    show (do if h : p < A.size then do set (p + 1); Pure.pure A[p].toNat else MonadExcept.throw (HasTruncated.truncated p) : Reader DecodeError Nat) A p = _
    by_cases hi : p < A.size
    · rw [dif_pos hi, dif_pos hi]; rfl
    · rw [dif_neg hi, dif_neg hi]; rfl
  rw [e, dif_pos h3, h4]
theorem dk_bind {α β : Type} {r : Reader DecodeError α} {f : α → Reader DecodeError β} {A : ByteArray} {p s : Nat} {a : α} (h : r A p = .ok (a, s)) : (r >>= f) A p = f a A s := by
  show (do let (a, s) ← r A p; f a A s : Except DecodeError (β × Nat)) = _
  rw [h]
  rfl
theorem dk_map {α β : Type} {r : Reader DecodeError α} {g : α → β} {A : ByteArray} {p s : Nat} {a : α} (h : r A p = .ok (a, s)) : (g <$> r) A p = .ok (g a, s) := by
  show (do let (a, s) ← r A p; .ok (g a, s) : Except DecodeError (β × Nat)) = _
  rw [h]
  rfl
theorem dk_u2 {A : ByteArray} {p : Nat} {a b : UInt8} (h : A.data.toList[p]? = some a) (h2 : A.data.toList[p + 1]? = some b) : (Reader.u2 : Reader DecodeError Nat) A p = .ok (a.toNat * 256 + b.toNat, p + 2) := by
  show (Reader.u1 >>= fun hi => Reader.u1 >>= fun lo => Pure.pure (hi * 256 + lo) : Reader DecodeError Nat) A p = _
  rw [dk_bind (dk_u1 h), dk_bind (dk_u1 h2)]
  rfl
theorem dk_of {code : ByteArray} {pc n : Nat} {i : Instr} (h : Decoder.instr pc code pc = .ok (i, pc + n)) : decode code pc = .ok (i, n) := by
  have e : decode code pc = (match Decoder.instr pc code pc with | .error x => .error x | .ok (j, s) => .ok (j, s - pc)) := by
    show (do let (j, s) ← Decoder.instr pc code pc; Pure.pure (j, s - pc) : Except DecodeError (Instr × Nat)) = _
    cases Decoder.instr pc code pc <;> rfl
  rw [e, h]
  show Except.ok (i, pc + n - pc) = _
  rw [Nat.add_sub_cancel_left]
theorem dk_1 {code : ByteArray} {pc : Nat} (h : DkAt code pc [1]) : decode code pc = .ok (.aconst_null, 1) := dk_of ((dk_bind (dk_u1 (h 0 _ rfl))).trans rfl)
theorem dk_2 {code : ByteArray} {pc : Nat} (h : DkAt code pc [2]) : decode code pc = .ok (.iconst (-1), 1) := dk_of ((dk_bind (dk_u1 (h 0 _ rfl))).trans rfl)
theorem dk_3 {code : ByteArray} {pc : Nat} (h : DkAt code pc [3]) : decode code pc = .ok (.iconst 0, 1) := dk_of ((dk_bind (dk_u1 (h 0 _ rfl))).trans rfl)
theorem dk_4 {code : ByteArray} {pc : Nat} (h : DkAt code pc [4]) : decode code pc = .ok (.iconst 1, 1) := dk_of ((dk_bind (dk_u1 (h 0 _ rfl))).trans rfl)
theorem dk_5 {code : ByteArray} {pc : Nat} (h : DkAt code pc [5]) : decode code pc = .ok (.iconst 2, 1) := dk_of ((dk_bind (dk_u1 (h 0 _ rfl))).trans rfl)
theorem dk_6 {code : ByteArray} {pc : Nat} (h : DkAt code pc [6]) : decode code pc = .ok (.iconst 3, 1) := dk_of ((dk_bind (dk_u1 (h 0 _ rfl))).trans rfl)
theorem dk_7 {code : ByteArray} {pc : Nat} (h : DkAt code pc [7]) : decode code pc = .ok (.iconst 4, 1) := dk_of ((dk_bind (dk_u1 (h 0 _ rfl))).trans rfl)
theorem dk_8 {code : ByteArray} {pc : Nat} (h : DkAt code pc [8]) : decode code pc = .ok (.iconst 5, 1) := dk_of ((dk_bind (dk_u1 (h 0 _ rfl))).trans rfl)
theorem dk_9 {code : ByteArray} {pc : Nat} (h : DkAt code pc [9]) : decode code pc = .ok (.lconst 0, 1) := dk_of ((dk_bind (dk_u1 (h 0 _ rfl))).trans rfl)
theorem dk_10 {code : ByteArray} {pc : Nat} (h : DkAt code pc [10]) : decode code pc = .ok (.lconst 1, 1) := dk_of ((dk_bind (dk_u1 (h 0 _ rfl))).trans rfl)
theorem dk_16 {code : ByteArray} {pc : Nat} (a : UInt8) (h : DkAt code pc [16, a]) : decode code pc = .ok (.bipush (Reader.signed 8 a.toNat), 2) := dk_of ((dk_bind (dk_u1 (h 0 _ rfl))).trans ((dk_bind (dk_map (dk_u1 (h 1 _ rfl)))).trans rfl))
theorem dk_17 {code : ByteArray} {pc : Nat} (a b : UInt8) (h : DkAt code pc [17, a, b]) : decode code pc = .ok (.sipush (Reader.signed 16 (a.toNat * 256 + b.toNat)), 3) := dk_of ((dk_bind (dk_u1 (h 0 _ rfl))).trans ((dk_bind (dk_map (dk_u2 (h 1 _ rfl) (h 2 _ rfl)))).trans rfl))
theorem dk_18 {code : ByteArray} {pc : Nat} (a : UInt8) (h : DkAt code pc [18, a]) : decode code pc = .ok (.ldc a.toNat, 2) := dk_of ((dk_bind (dk_u1 (h 0 _ rfl))).trans ((dk_bind (dk_u1 (h 1 _ rfl))).trans rfl))
theorem dk_19 {code : ByteArray} {pc : Nat} (a b : UInt8) (h : DkAt code pc [19, a, b]) : decode code pc = .ok (.ldc_w (a.toNat * 256 + b.toNat), 3) := dk_of ((dk_bind (dk_u1 (h 0 _ rfl))).trans ((dk_bind (dk_u2 (h 1 _ rfl) (h 2 _ rfl))).trans rfl))
theorem dk_20 {code : ByteArray} {pc : Nat} (a b : UInt8) (h : DkAt code pc [20, a, b]) : decode code pc = .ok (.ldc2_w (a.toNat * 256 + b.toNat), 3) := dk_of ((dk_bind (dk_u1 (h 0 _ rfl))).trans ((dk_bind (dk_u2 (h 1 _ rfl) (h 2 _ rfl))).trans rfl))
theorem dk_21 {code : ByteArray} {pc : Nat} (a : UInt8) (h : DkAt code pc [21, a]) : decode code pc = .ok (.iload a.toNat, 2) := dk_of ((dk_bind (dk_u1 (h 0 _ rfl))).trans ((dk_bind (dk_u1 (h 1 _ rfl))).trans rfl))
theorem dk_22 {code : ByteArray} {pc : Nat} (a : UInt8) (h : DkAt code pc [22, a]) : decode code pc = .ok (.lload a.toNat, 2) := dk_of ((dk_bind (dk_u1 (h 0 _ rfl))).trans ((dk_bind (dk_u1 (h 1 _ rfl))).trans rfl))
theorem dk_25 {code : ByteArray} {pc : Nat} (a : UInt8) (h : DkAt code pc [25, a]) : decode code pc = .ok (.aload a.toNat, 2) := dk_of ((dk_bind (dk_u1 (h 0 _ rfl))).trans ((dk_bind (dk_u1 (h 1 _ rfl))).trans rfl))
theorem dk_26 {code : ByteArray} {pc : Nat} (h : DkAt code pc [26]) : decode code pc = .ok (.iload_n 0, 1) := dk_of ((dk_bind (dk_u1 (h 0 _ rfl))).trans rfl)
theorem dk_27 {code : ByteArray} {pc : Nat} (h : DkAt code pc [27]) : decode code pc = .ok (.iload_n 1, 1) := dk_of ((dk_bind (dk_u1 (h 0 _ rfl))).trans rfl)
theorem dk_28 {code : ByteArray} {pc : Nat} (h : DkAt code pc [28]) : decode code pc = .ok (.iload_n 2, 1) := dk_of ((dk_bind (dk_u1 (h 0 _ rfl))).trans rfl)
theorem dk_29 {code : ByteArray} {pc : Nat} (h : DkAt code pc [29]) : decode code pc = .ok (.iload_n 3, 1) := dk_of ((dk_bind (dk_u1 (h 0 _ rfl))).trans rfl)
theorem dk_30 {code : ByteArray} {pc : Nat} (h : DkAt code pc [30]) : decode code pc = .ok (.lload_n 0, 1) := dk_of ((dk_bind (dk_u1 (h 0 _ rfl))).trans rfl)
theorem dk_31 {code : ByteArray} {pc : Nat} (h : DkAt code pc [31]) : decode code pc = .ok (.lload_n 1, 1) := dk_of ((dk_bind (dk_u1 (h 0 _ rfl))).trans rfl)
theorem dk_32 {code : ByteArray} {pc : Nat} (h : DkAt code pc [32]) : decode code pc = .ok (.lload_n 2, 1) := dk_of ((dk_bind (dk_u1 (h 0 _ rfl))).trans rfl)
theorem dk_33 {code : ByteArray} {pc : Nat} (h : DkAt code pc [33]) : decode code pc = .ok (.lload_n 3, 1) := dk_of ((dk_bind (dk_u1 (h 0 _ rfl))).trans rfl)
theorem dk_42 {code : ByteArray} {pc : Nat} (h : DkAt code pc [42]) : decode code pc = .ok (.aload_n 0, 1) := dk_of ((dk_bind (dk_u1 (h 0 _ rfl))).trans rfl)
theorem dk_43 {code : ByteArray} {pc : Nat} (h : DkAt code pc [43]) : decode code pc = .ok (.aload_n 1, 1) := dk_of ((dk_bind (dk_u1 (h 0 _ rfl))).trans rfl)
theorem dk_44 {code : ByteArray} {pc : Nat} (h : DkAt code pc [44]) : decode code pc = .ok (.aload_n 2, 1) := dk_of ((dk_bind (dk_u1 (h 0 _ rfl))).trans rfl)
theorem dk_45 {code : ByteArray} {pc : Nat} (h : DkAt code pc [45]) : decode code pc = .ok (.aload_n 3, 1) := dk_of ((dk_bind (dk_u1 (h 0 _ rfl))).trans rfl)
theorem dk_46 {code : ByteArray} {pc : Nat} (h : DkAt code pc [46]) : decode code pc = .ok (.iaload, 1) := dk_of ((dk_bind (dk_u1 (h 0 _ rfl))).trans rfl)
theorem dk_47 {code : ByteArray} {pc : Nat} (h : DkAt code pc [47]) : decode code pc = .ok (.laload, 1) := dk_of ((dk_bind (dk_u1 (h 0 _ rfl))).trans rfl)
theorem dk_50 {code : ByteArray} {pc : Nat} (h : DkAt code pc [50]) : decode code pc = .ok (.aaload, 1) := dk_of ((dk_bind (dk_u1 (h 0 _ rfl))).trans rfl)
theorem dk_51 {code : ByteArray} {pc : Nat} (h : DkAt code pc [51]) : decode code pc = .ok (.baload, 1) := dk_of ((dk_bind (dk_u1 (h 0 _ rfl))).trans rfl)
theorem dk_54 {code : ByteArray} {pc : Nat} (a : UInt8) (h : DkAt code pc [54, a]) : decode code pc = .ok (.istore a.toNat, 2) := dk_of ((dk_bind (dk_u1 (h 0 _ rfl))).trans ((dk_bind (dk_u1 (h 1 _ rfl))).trans rfl))
theorem dk_55 {code : ByteArray} {pc : Nat} (a : UInt8) (h : DkAt code pc [55, a]) : decode code pc = .ok (.lstore a.toNat, 2) := dk_of ((dk_bind (dk_u1 (h 0 _ rfl))).trans ((dk_bind (dk_u1 (h 1 _ rfl))).trans rfl))
theorem dk_58 {code : ByteArray} {pc : Nat} (a : UInt8) (h : DkAt code pc [58, a]) : decode code pc = .ok (.astore a.toNat, 2) := dk_of ((dk_bind (dk_u1 (h 0 _ rfl))).trans ((dk_bind (dk_u1 (h 1 _ rfl))).trans rfl))
theorem dk_60 {code : ByteArray} {pc : Nat} (h : DkAt code pc [60]) : decode code pc = .ok (.istore_n 1, 1) := dk_of ((dk_bind (dk_u1 (h 0 _ rfl))).trans rfl)
theorem dk_61 {code : ByteArray} {pc : Nat} (h : DkAt code pc [61]) : decode code pc = .ok (.istore_n 2, 1) := dk_of ((dk_bind (dk_u1 (h 0 _ rfl))).trans rfl)
theorem dk_62 {code : ByteArray} {pc : Nat} (h : DkAt code pc [62]) : decode code pc = .ok (.istore_n 3, 1) := dk_of ((dk_bind (dk_u1 (h 0 _ rfl))).trans rfl)
theorem dk_65 {code : ByteArray} {pc : Nat} (h : DkAt code pc [65]) : decode code pc = .ok (.lstore_n 2, 1) := dk_of ((dk_bind (dk_u1 (h 0 _ rfl))).trans rfl)
theorem dk_66 {code : ByteArray} {pc : Nat} (h : DkAt code pc [66]) : decode code pc = .ok (.lstore_n 3, 1) := dk_of ((dk_bind (dk_u1 (h 0 _ rfl))).trans rfl)
theorem dk_76 {code : ByteArray} {pc : Nat} (h : DkAt code pc [76]) : decode code pc = .ok (.astore_n 1, 1) := dk_of ((dk_bind (dk_u1 (h 0 _ rfl))).trans rfl)
theorem dk_77 {code : ByteArray} {pc : Nat} (h : DkAt code pc [77]) : decode code pc = .ok (.astore_n 2, 1) := dk_of ((dk_bind (dk_u1 (h 0 _ rfl))).trans rfl)
theorem dk_78 {code : ByteArray} {pc : Nat} (h : DkAt code pc [78]) : decode code pc = .ok (.astore_n 3, 1) := dk_of ((dk_bind (dk_u1 (h 0 _ rfl))).trans rfl)
theorem dk_79 {code : ByteArray} {pc : Nat} (h : DkAt code pc [79]) : decode code pc = .ok (.iastore, 1) := dk_of ((dk_bind (dk_u1 (h 0 _ rfl))).trans rfl)
theorem dk_80 {code : ByteArray} {pc : Nat} (h : DkAt code pc [80]) : decode code pc = .ok (.lastore, 1) := dk_of ((dk_bind (dk_u1 (h 0 _ rfl))).trans rfl)
theorem dk_83 {code : ByteArray} {pc : Nat} (h : DkAt code pc [83]) : decode code pc = .ok (.aastore, 1) := dk_of ((dk_bind (dk_u1 (h 0 _ rfl))).trans rfl)
theorem dk_84 {code : ByteArray} {pc : Nat} (h : DkAt code pc [84]) : decode code pc = .ok (.bastore, 1) := dk_of ((dk_bind (dk_u1 (h 0 _ rfl))).trans rfl)
theorem dk_87 {code : ByteArray} {pc : Nat} (h : DkAt code pc [87]) : decode code pc = .ok (.pop, 1) := dk_of ((dk_bind (dk_u1 (h 0 _ rfl))).trans rfl)
theorem dk_89 {code : ByteArray} {pc : Nat} (h : DkAt code pc [89]) : decode code pc = .ok (.dup, 1) := dk_of ((dk_bind (dk_u1 (h 0 _ rfl))).trans rfl)
theorem dk_92 {code : ByteArray} {pc : Nat} (h : DkAt code pc [92]) : decode code pc = .ok (.dup2, 1) := dk_of ((dk_bind (dk_u1 (h 0 _ rfl))).trans rfl)
theorem dk_96 {code : ByteArray} {pc : Nat} (h : DkAt code pc [96]) : decode code pc = .ok (.iadd, 1) := dk_of ((dk_bind (dk_u1 (h 0 _ rfl))).trans rfl)
theorem dk_97 {code : ByteArray} {pc : Nat} (h : DkAt code pc [97]) : decode code pc = .ok (.ladd, 1) := dk_of ((dk_bind (dk_u1 (h 0 _ rfl))).trans rfl)
theorem dk_100 {code : ByteArray} {pc : Nat} (h : DkAt code pc [100]) : decode code pc = .ok (.isub, 1) := dk_of ((dk_bind (dk_u1 (h 0 _ rfl))).trans rfl)
theorem dk_104 {code : ByteArray} {pc : Nat} (h : DkAt code pc [104]) : decode code pc = .ok (.imul, 1) := dk_of ((dk_bind (dk_u1 (h 0 _ rfl))).trans rfl)
theorem dk_105 {code : ByteArray} {pc : Nat} (h : DkAt code pc [105]) : decode code pc = .ok (.lmul, 1) := dk_of ((dk_bind (dk_u1 (h 0 _ rfl))).trans rfl)
theorem dk_112 {code : ByteArray} {pc : Nat} (h : DkAt code pc [112]) : decode code pc = .ok (.irem, 1) := dk_of ((dk_bind (dk_u1 (h 0 _ rfl))).trans rfl)
theorem dk_113 {code : ByteArray} {pc : Nat} (h : DkAt code pc [113]) : decode code pc = .ok (.lrem, 1) := dk_of ((dk_bind (dk_u1 (h 0 _ rfl))).trans rfl)
theorem dk_120 {code : ByteArray} {pc : Nat} (h : DkAt code pc [120]) : decode code pc = .ok (.ishl, 1) := dk_of ((dk_bind (dk_u1 (h 0 _ rfl))).trans rfl)
theorem dk_121 {code : ByteArray} {pc : Nat} (h : DkAt code pc [121]) : decode code pc = .ok (.lshl, 1) := dk_of ((dk_bind (dk_u1 (h 0 _ rfl))).trans rfl)
theorem dk_122 {code : ByteArray} {pc : Nat} (h : DkAt code pc [122]) : decode code pc = .ok (.ishr, 1) := dk_of ((dk_bind (dk_u1 (h 0 _ rfl))).trans rfl)
theorem dk_123 {code : ByteArray} {pc : Nat} (h : DkAt code pc [123]) : decode code pc = .ok (.lshr, 1) := dk_of ((dk_bind (dk_u1 (h 0 _ rfl))).trans rfl)
theorem dk_124 {code : ByteArray} {pc : Nat} (h : DkAt code pc [124]) : decode code pc = .ok (.iushr, 1) := dk_of ((dk_bind (dk_u1 (h 0 _ rfl))).trans rfl)
theorem dk_126 {code : ByteArray} {pc : Nat} (h : DkAt code pc [126]) : decode code pc = .ok (.iand, 1) := dk_of ((dk_bind (dk_u1 (h 0 _ rfl))).trans rfl)
theorem dk_127 {code : ByteArray} {pc : Nat} (h : DkAt code pc [127]) : decode code pc = .ok (.land, 1) := dk_of ((dk_bind (dk_u1 (h 0 _ rfl))).trans rfl)
theorem dk_128 {code : ByteArray} {pc : Nat} (h : DkAt code pc [128]) : decode code pc = .ok (.ior, 1) := dk_of ((dk_bind (dk_u1 (h 0 _ rfl))).trans rfl)
theorem dk_129 {code : ByteArray} {pc : Nat} (h : DkAt code pc [129]) : decode code pc = .ok (.lor, 1) := dk_of ((dk_bind (dk_u1 (h 0 _ rfl))).trans rfl)
theorem dk_132 {code : ByteArray} {pc : Nat} (a b : UInt8) (h : DkAt code pc [132, a, b]) : decode code pc = .ok (.iinc a.toNat (Reader.signed 8 b.toNat), 3) := dk_of ((dk_bind (dk_u1 (h 0 _ rfl))).trans ((dk_bind (dk_u1 (h 1 _ rfl))).trans ((dk_bind (dk_map (dk_u1 (h 2 _ rfl)))).trans rfl)))
theorem dk_133 {code : ByteArray} {pc : Nat} (h : DkAt code pc [133]) : decode code pc = .ok (.i2l, 1) := dk_of ((dk_bind (dk_u1 (h 0 _ rfl))).trans rfl)
theorem dk_136 {code : ByteArray} {pc : Nat} (h : DkAt code pc [136]) : decode code pc = .ok (.l2i, 1) := dk_of ((dk_bind (dk_u1 (h 0 _ rfl))).trans rfl)
theorem dk_148 {code : ByteArray} {pc : Nat} (h : DkAt code pc [148]) : decode code pc = .ok (.lcmp, 1) := dk_of ((dk_bind (dk_u1 (h 0 _ rfl))).trans rfl)
theorem dk_153 {code : ByteArray} {pc : Nat} (a b : UInt8) (h : DkAt code pc [153, a, b]) : decode code pc = .ok (.ifCond .eq (Reader.signed 16 (a.toNat * 256 + b.toNat)), 3) := dk_of ((dk_bind (dk_u1 (h 0 _ rfl))).trans ((dk_bind (dk_map (dk_u2 (h 1 _ rfl) (h 2 _ rfl)))).trans rfl))
theorem dk_154 {code : ByteArray} {pc : Nat} (a b : UInt8) (h : DkAt code pc [154, a, b]) : decode code pc = .ok (.ifCond .ne (Reader.signed 16 (a.toNat * 256 + b.toNat)), 3) := dk_of ((dk_bind (dk_u1 (h 0 _ rfl))).trans ((dk_bind (dk_map (dk_u2 (h 1 _ rfl) (h 2 _ rfl)))).trans rfl))
theorem dk_155 {code : ByteArray} {pc : Nat} (a b : UInt8) (h : DkAt code pc [155, a, b]) : decode code pc = .ok (.ifCond .lt (Reader.signed 16 (a.toNat * 256 + b.toNat)), 3) := dk_of ((dk_bind (dk_u1 (h 0 _ rfl))).trans ((dk_bind (dk_map (dk_u2 (h 1 _ rfl) (h 2 _ rfl)))).trans rfl))
theorem dk_156 {code : ByteArray} {pc : Nat} (a b : UInt8) (h : DkAt code pc [156, a, b]) : decode code pc = .ok (.ifCond .ge (Reader.signed 16 (a.toNat * 256 + b.toNat)), 3) := dk_of ((dk_bind (dk_u1 (h 0 _ rfl))).trans ((dk_bind (dk_map (dk_u2 (h 1 _ rfl) (h 2 _ rfl)))).trans rfl))
theorem dk_157 {code : ByteArray} {pc : Nat} (a b : UInt8) (h : DkAt code pc [157, a, b]) : decode code pc = .ok (.ifCond .gt (Reader.signed 16 (a.toNat * 256 + b.toNat)), 3) := dk_of ((dk_bind (dk_u1 (h 0 _ rfl))).trans ((dk_bind (dk_map (dk_u2 (h 1 _ rfl) (h 2 _ rfl)))).trans rfl))
theorem dk_158 {code : ByteArray} {pc : Nat} (a b : UInt8) (h : DkAt code pc [158, a, b]) : decode code pc = .ok (.ifCond .le (Reader.signed 16 (a.toNat * 256 + b.toNat)), 3) := dk_of ((dk_bind (dk_u1 (h 0 _ rfl))).trans ((dk_bind (dk_map (dk_u2 (h 1 _ rfl) (h 2 _ rfl)))).trans rfl))
theorem dk_159 {code : ByteArray} {pc : Nat} (a b : UInt8) (h : DkAt code pc [159, a, b]) : decode code pc = .ok (.if_icmp .eq (Reader.signed 16 (a.toNat * 256 + b.toNat)), 3) := dk_of ((dk_bind (dk_u1 (h 0 _ rfl))).trans ((dk_bind (dk_map (dk_u2 (h 1 _ rfl) (h 2 _ rfl)))).trans rfl))
theorem dk_160 {code : ByteArray} {pc : Nat} (a b : UInt8) (h : DkAt code pc [160, a, b]) : decode code pc = .ok (.if_icmp .ne (Reader.signed 16 (a.toNat * 256 + b.toNat)), 3) := dk_of ((dk_bind (dk_u1 (h 0 _ rfl))).trans ((dk_bind (dk_map (dk_u2 (h 1 _ rfl) (h 2 _ rfl)))).trans rfl))
theorem dk_161 {code : ByteArray} {pc : Nat} (a b : UInt8) (h : DkAt code pc [161, a, b]) : decode code pc = .ok (.if_icmp .lt (Reader.signed 16 (a.toNat * 256 + b.toNat)), 3) := dk_of ((dk_bind (dk_u1 (h 0 _ rfl))).trans ((dk_bind (dk_map (dk_u2 (h 1 _ rfl) (h 2 _ rfl)))).trans rfl))
theorem dk_162 {code : ByteArray} {pc : Nat} (a b : UInt8) (h : DkAt code pc [162, a, b]) : decode code pc = .ok (.if_icmp .ge (Reader.signed 16 (a.toNat * 256 + b.toNat)), 3) := dk_of ((dk_bind (dk_u1 (h 0 _ rfl))).trans ((dk_bind (dk_map (dk_u2 (h 1 _ rfl) (h 2 _ rfl)))).trans rfl))
theorem dk_163 {code : ByteArray} {pc : Nat} (a b : UInt8) (h : DkAt code pc [163, a, b]) : decode code pc = .ok (.if_icmp .gt (Reader.signed 16 (a.toNat * 256 + b.toNat)), 3) := dk_of ((dk_bind (dk_u1 (h 0 _ rfl))).trans ((dk_bind (dk_map (dk_u2 (h 1 _ rfl) (h 2 _ rfl)))).trans rfl))
theorem dk_164 {code : ByteArray} {pc : Nat} (a b : UInt8) (h : DkAt code pc [164, a, b]) : decode code pc = .ok (.if_icmp .le (Reader.signed 16 (a.toNat * 256 + b.toNat)), 3) := dk_of ((dk_bind (dk_u1 (h 0 _ rfl))).trans ((dk_bind (dk_map (dk_u2 (h 1 _ rfl) (h 2 _ rfl)))).trans rfl))
theorem dk_167 {code : ByteArray} {pc : Nat} (a b : UInt8) (h : DkAt code pc [167, a, b]) : decode code pc = .ok (.goto (Reader.signed 16 (a.toNat * 256 + b.toNat)), 3) := dk_of ((dk_bind (dk_u1 (h 0 _ rfl))).trans ((dk_bind (dk_map (dk_u2 (h 1 _ rfl) (h 2 _ rfl)))).trans rfl))
theorem dk_172 {code : ByteArray} {pc : Nat} (h : DkAt code pc [172]) : decode code pc = .ok (.ireturn, 1) := dk_of ((dk_bind (dk_u1 (h 0 _ rfl))).trans rfl)
theorem dk_173 {code : ByteArray} {pc : Nat} (h : DkAt code pc [173]) : decode code pc = .ok (.lreturn, 1) := dk_of ((dk_bind (dk_u1 (h 0 _ rfl))).trans rfl)
theorem dk_176 {code : ByteArray} {pc : Nat} (h : DkAt code pc [176]) : decode code pc = .ok (.areturn, 1) := dk_of ((dk_bind (dk_u1 (h 0 _ rfl))).trans rfl)
theorem dk_177 {code : ByteArray} {pc : Nat} (h : DkAt code pc [177]) : decode code pc = .ok (.return_, 1) := dk_of ((dk_bind (dk_u1 (h 0 _ rfl))).trans rfl)
theorem dk_178 {code : ByteArray} {pc : Nat} (a b : UInt8) (h : DkAt code pc [178, a, b]) : decode code pc = .ok (.getstatic (a.toNat * 256 + b.toNat), 3) := dk_of ((dk_bind (dk_u1 (h 0 _ rfl))).trans ((dk_bind (dk_u2 (h 1 _ rfl) (h 2 _ rfl))).trans rfl))
theorem dk_180 {code : ByteArray} {pc : Nat} (a b : UInt8) (h : DkAt code pc [180, a, b]) : decode code pc = .ok (.getfield (a.toNat * 256 + b.toNat), 3) := dk_of ((dk_bind (dk_u1 (h 0 _ rfl))).trans ((dk_bind (dk_u2 (h 1 _ rfl) (h 2 _ rfl))).trans rfl))
theorem dk_181 {code : ByteArray} {pc : Nat} (a b : UInt8) (h : DkAt code pc [181, a, b]) : decode code pc = .ok (.putfield (a.toNat * 256 + b.toNat), 3) := dk_of ((dk_bind (dk_u1 (h 0 _ rfl))).trans ((dk_bind (dk_u2 (h 1 _ rfl) (h 2 _ rfl))).trans rfl))
theorem dk_182 {code : ByteArray} {pc : Nat} (a b : UInt8) (h : DkAt code pc [182, a, b]) : decode code pc = .ok (.invokevirtual (a.toNat * 256 + b.toNat), 3) := dk_of ((dk_bind (dk_u1 (h 0 _ rfl))).trans ((dk_bind (dk_u2 (h 1 _ rfl) (h 2 _ rfl))).trans rfl))
theorem dk_183 {code : ByteArray} {pc : Nat} (a b : UInt8) (h : DkAt code pc [183, a, b]) : decode code pc = .ok (.invokespecial (a.toNat * 256 + b.toNat), 3) := dk_of ((dk_bind (dk_u1 (h 0 _ rfl))).trans ((dk_bind (dk_u2 (h 1 _ rfl) (h 2 _ rfl))).trans rfl))
theorem dk_184 {code : ByteArray} {pc : Nat} (a b : UInt8) (h : DkAt code pc [184, a, b]) : decode code pc = .ok (.invokestatic (a.toNat * 256 + b.toNat), 3) := dk_of ((dk_bind (dk_u1 (h 0 _ rfl))).trans ((dk_bind (dk_u2 (h 1 _ rfl) (h 2 _ rfl))).trans rfl))
theorem dk_187 {code : ByteArray} {pc : Nat} (a b : UInt8) (h : DkAt code pc [187, a, b]) : decode code pc = .ok (.new (a.toNat * 256 + b.toNat), 3) := dk_of ((dk_bind (dk_u1 (h 0 _ rfl))).trans ((dk_bind (dk_u2 (h 1 _ rfl) (h 2 _ rfl))).trans rfl))
theorem dk_188_4 {code : ByteArray} {pc : Nat} (h : DkAt code pc [188, 4]) : decode code pc = .ok (.newarray .boolean, 2) := dk_of ((dk_bind (dk_u1 (h 0 _ rfl))).trans ((dk_bind (dk_u1 (h 1 _ rfl))).trans rfl))
theorem dk_188_10 {code : ByteArray} {pc : Nat} (h : DkAt code pc [188, 10]) : decode code pc = .ok (.newarray .int, 2) := dk_of ((dk_bind (dk_u1 (h 0 _ rfl))).trans ((dk_bind (dk_u1 (h 1 _ rfl))).trans rfl))
theorem dk_188_11 {code : ByteArray} {pc : Nat} (h : DkAt code pc [188, 11]) : decode code pc = .ok (.newarray .long, 2) := dk_of ((dk_bind (dk_u1 (h 0 _ rfl))).trans ((dk_bind (dk_u1 (h 1 _ rfl))).trans rfl))
theorem dk_189 {code : ByteArray} {pc : Nat} (a b : UInt8) (h : DkAt code pc [189, a, b]) : decode code pc = .ok (.anewarray (a.toNat * 256 + b.toNat), 3) := dk_of ((dk_bind (dk_u1 (h 0 _ rfl))).trans ((dk_bind (dk_u2 (h 1 _ rfl) (h 2 _ rfl))).trans rfl))
theorem dk_190 {code : ByteArray} {pc : Nat} (h : DkAt code pc [190]) : decode code pc = .ok (.arraylength, 1) := dk_of ((dk_bind (dk_u1 (h 0 _ rfl))).trans rfl)
theorem dk_191 {code : ByteArray} {pc : Nat} (h : DkAt code pc [191]) : decode code pc = .ok (.athrow, 1) := dk_of ((dk_bind (dk_u1 (h 0 _ rfl))).trans rfl)
theorem dk_192 {code : ByteArray} {pc : Nat} (a b : UInt8) (h : DkAt code pc [192, a, b]) : decode code pc = .ok (.checkcast (a.toNat * 256 + b.toNat), 3) := dk_of ((dk_bind (dk_u1 (h 0 _ rfl))).trans ((dk_bind (dk_u2 (h 1 _ rfl) (h 2 _ rfl))).trans rfl))
theorem dk_193 {code : ByteArray} {pc : Nat} (a b : UInt8) (h : DkAt code pc [193, a, b]) : decode code pc = .ok (.instanceof (a.toNat * 256 + b.toNat), 3) := dk_of ((dk_bind (dk_u1 (h 0 _ rfl))).trans ((dk_bind (dk_u2 (h 1 _ rfl) (h 2 _ rfl))).trans rfl))
theorem dk_198 {code : ByteArray} {pc : Nat} (a b : UInt8) (h : DkAt code pc [198, a, b]) : decode code pc = .ok (.ifnull (Reader.signed 16 (a.toNat * 256 + b.toNat)), 3) := dk_of ((dk_bind (dk_u1 (h 0 _ rfl))).trans ((dk_bind (dk_map (dk_u2 (h 1 _ rfl) (h 2 _ rfl)))).trans rfl))
theorem dk_199 {code : ByteArray} {pc : Nat} (a b : UInt8) (h : DkAt code pc [199, a, b]) : decode code pc = .ok (.ifnonnull (Reader.signed 16 (a.toNat * 256 + b.toNat)), 3) := dk_of ((dk_bind (dk_u1 (h 0 _ rfl))).trans ((dk_bind (dk_map (dk_u2 (h 1 _ rfl) (h 2 _ rfl)))).trans rfl))
/-! java/lang/Throwable -/
set_option maxRecDepth 100000
def RJ0 : String := "java/lang/Throwable"
def TJ0 : u_T := fun k => match k with
  | 0 => ("java/lang/Throwable", "cause", "Ljava/lang/Throwable;", false)
  | 1 => ("java/lang/Throwable", "stackTrace", "[Ljava/lang/StackTraceElement;", false)
  | 2 => ("java/lang/Throwable", "suppressedExceptions", "Ljava/util/List;", false)
  | 3 => ("java/lang/Throwable", "detailMessage", "Ljava/lang/String;", false)
  | _ => ("java/lang/Throwable", "backtrace", "Ljava/lang/Object;", false)
def tyJ0 : Nat → FieldType := fun k => match k with
  | 0 => .object "java/lang/Throwable"
  | 1 => .array (.object "java/lang/StackTraceElement")
  | 2 => .object "java/util/List"
  | 3 => .object "java/lang/String"
  | _ => .object "java/lang/Object"
abbrev wsJ00 : List Cond := u_ws RJ0 TJ0 5
theorem nmJ0 : ∀ a, a < 5 → ∀ b, b < 5 → a ≠ b → (TJ0 a).2.1 ≠ (TJ0 b).2.1 := by decide +kernel
theorem tyJ0_ok : ∀ k, k < 5 → parseFieldDescriptor (TJ0 k).2.2.1 = some (tyJ0 k) := by decide +kernel
abbrev cJ0_init : ByteArray := prog_27_method_1_code
def yJ0_init : MethodName := ⟨RJ0, "<init>", "()V"⟩
def dkwJ0_init_1 : List UInt8 := [182, 0, 27, 87, 177]
abbrev dktJ0_init_1 : List UInt8 := dkwJ0_init_1 ++ []
def dkwJ0_init_0 : List UInt8 := [42, 183, 0, 1, 42, 42, 181, 0, 7, 42, 178, 0, 13, 181, 0, 17, 42, 178, 0, 20, 181, 0, 24, 42]
abbrev dktJ0_init_0 : List UInt8 := dkwJ0_init_0 ++ dktJ0_init_1
theorem dksJ0_init_0 : cJ0_init.data.toList.drop 0 = dktJ0_init_0 := by decide +kernel
theorem dksJ0_init_1 : cJ0_init.data.toList.drop 24 = dktJ0_init_1 := dk_seg dksJ0_init_0 24 rfl rfl
theorem dJ0_init_0 : decode cJ0_init 0 = .ok (.aload_n 0, 1) := dk_42 (dk_at dksJ0_init_0 0 rfl rfl)
theorem dJ0_init_1 : decode cJ0_init 1 = .ok (.invokespecial 1, 3) := dk_183 0 1 (dk_at dksJ0_init_0 1 rfl rfl)
theorem dJ0_init_4 : decode cJ0_init 4 = .ok (.aload_n 0, 1) := dk_42 (dk_at dksJ0_init_0 4 rfl rfl)
theorem dJ0_init_5 : decode cJ0_init 5 = .ok (.aload_n 0, 1) := dk_42 (dk_at dksJ0_init_0 5 rfl rfl)
theorem dJ0_init_6 : decode cJ0_init 6 = .ok (.putfield 7, 3) := dk_181 0 7 (dk_at dksJ0_init_0 6 rfl rfl)
theorem dJ0_init_9 : decode cJ0_init 9 = .ok (.aload_n 0, 1) := dk_42 (dk_at dksJ0_init_0 9 rfl rfl)
theorem dJ0_init_10 : decode cJ0_init 10 = .ok (.getstatic 13, 3) := dk_178 0 13 (dk_at dksJ0_init_0 10 rfl rfl)
theorem dJ0_init_13 : decode cJ0_init 13 = .ok (.putfield 17, 3) := dk_181 0 17 (dk_at dksJ0_init_0 13 rfl rfl)
theorem dJ0_init_16 : decode cJ0_init 16 = .ok (.aload_n 0, 1) := dk_42 (dk_at dksJ0_init_0 16 rfl rfl)
theorem dJ0_init_17 : decode cJ0_init 17 = .ok (.getstatic 20, 3) := dk_178 0 20 (dk_at dksJ0_init_0 17 rfl rfl)
theorem dJ0_init_20 : decode cJ0_init 20 = .ok (.putfield 24, 3) := dk_181 0 24 (dk_at dksJ0_init_0 20 rfl rfl)
theorem dJ0_init_23 : decode cJ0_init 23 = .ok (.aload_n 0, 1) := dk_42 (dk_at dksJ0_init_0 23 rfl rfl)
theorem dJ0_init_24 : decode cJ0_init 24 = .ok (.invokevirtual 27, 3) := dk_182 0 27 (dk_at dksJ0_init_1 0 rfl rfl)
theorem dJ0_init_27 : decode cJ0_init 27 = .ok (.pop, 1) := dk_87 (dk_at dksJ0_init_1 3 rfl rfl)
theorem dJ0_init_28 : decode cJ0_init 28 = .ok (.return_, 1) := dk_177 (dk_at dksJ0_init_1 4 rfl rfl)
abbrev cJ0_init_2 : ByteArray := prog_27_method_5_code
def yJ0_init_2 : MethodName := ⟨RJ0, "<init>", "(Ljava/lang/String;Ljava/lang/Throwable;ZZ)V"⟩
def dkwJ0_init_2_2 : List UInt8 := [44, 181, 0, 7, 29, 154, 0, 8, 42, 1, 181, 0, 24, 177]
abbrev dktJ0_init_2_2 : List UInt8 := dkwJ0_init_2_2 ++ []
def dkwJ0_init_2_1 : List UInt8 := [21, 4, 153, 0, 11, 42, 182, 0, 27, 87, 167, 0, 8, 42, 1, 181, 0, 17, 42, 43, 181, 0, 31, 42]
abbrev dktJ0_init_2_1 : List UInt8 := dkwJ0_init_2_1 ++ dktJ0_init_2_2
def dkwJ0_init_2_0 : List UInt8 := [42, 183, 0, 1, 42, 42, 181, 0, 7, 42, 178, 0, 13, 181, 0, 17, 42, 178, 0, 20, 181, 0, 24]
abbrev dktJ0_init_2_0 : List UInt8 := dkwJ0_init_2_0 ++ dktJ0_init_2_1
theorem dksJ0_init_2_0 : cJ0_init_2.data.toList.drop 0 = dktJ0_init_2_0 := by decide +kernel
theorem dksJ0_init_2_1 : cJ0_init_2.data.toList.drop 23 = dktJ0_init_2_1 := dk_seg dksJ0_init_2_0 23 rfl rfl
theorem dksJ0_init_2_2 : cJ0_init_2.data.toList.drop 47 = dktJ0_init_2_2 := dk_seg dksJ0_init_2_1 24 rfl rfl
theorem dJ0_init_2_0 : decode cJ0_init_2 0 = .ok (.aload_n 0, 1) := dk_42 (dk_at dksJ0_init_2_0 0 rfl rfl)
theorem dJ0_init_2_1 : decode cJ0_init_2 1 = .ok (.invokespecial 1, 3) := dk_183 0 1 (dk_at dksJ0_init_2_0 1 rfl rfl)
theorem dJ0_init_2_4 : decode cJ0_init_2 4 = .ok (.aload_n 0, 1) := dk_42 (dk_at dksJ0_init_2_0 4 rfl rfl)
theorem dJ0_init_2_5 : decode cJ0_init_2 5 = .ok (.aload_n 0, 1) := dk_42 (dk_at dksJ0_init_2_0 5 rfl rfl)
theorem dJ0_init_2_6 : decode cJ0_init_2 6 = .ok (.putfield 7, 3) := dk_181 0 7 (dk_at dksJ0_init_2_0 6 rfl rfl)
theorem dJ0_init_2_9 : decode cJ0_init_2 9 = .ok (.aload_n 0, 1) := dk_42 (dk_at dksJ0_init_2_0 9 rfl rfl)
theorem dJ0_init_2_10 : decode cJ0_init_2 10 = .ok (.getstatic 13, 3) := dk_178 0 13 (dk_at dksJ0_init_2_0 10 rfl rfl)
theorem dJ0_init_2_13 : decode cJ0_init_2 13 = .ok (.putfield 17, 3) := dk_181 0 17 (dk_at dksJ0_init_2_0 13 rfl rfl)
theorem dJ0_init_2_16 : decode cJ0_init_2 16 = .ok (.aload_n 0, 1) := dk_42 (dk_at dksJ0_init_2_0 16 rfl rfl)
theorem dJ0_init_2_17 : decode cJ0_init_2 17 = .ok (.getstatic 20, 3) := dk_178 0 20 (dk_at dksJ0_init_2_0 17 rfl rfl)
theorem dJ0_init_2_20 : decode cJ0_init_2 20 = .ok (.putfield 24, 3) := dk_181 0 24 (dk_at dksJ0_init_2_0 20 rfl rfl)
theorem dJ0_init_2_23 : decode cJ0_init_2 23 = .ok (.iload 4, 2) := dk_21 4 (dk_at dksJ0_init_2_1 0 rfl rfl)
theorem dJ0_init_2_25 : decode cJ0_init_2 25 = .ok (.ifCond .eq 11, 3) := dk_153 0 11 (dk_at dksJ0_init_2_1 2 rfl rfl)
theorem dJ0_init_2_28 : decode cJ0_init_2 28 = .ok (.aload_n 0, 1) := dk_42 (dk_at dksJ0_init_2_1 5 rfl rfl)
theorem dJ0_init_2_29 : decode cJ0_init_2 29 = .ok (.invokevirtual 27, 3) := dk_182 0 27 (dk_at dksJ0_init_2_1 6 rfl rfl)
theorem dJ0_init_2_32 : decode cJ0_init_2 32 = .ok (.pop, 1) := dk_87 (dk_at dksJ0_init_2_1 9 rfl rfl)
theorem dJ0_init_2_33 : decode cJ0_init_2 33 = .ok (.goto 8, 3) := dk_167 0 8 (dk_at dksJ0_init_2_1 10 rfl rfl)
theorem dJ0_init_2_36 : decode cJ0_init_2 36 = .ok (.aload_n 0, 1) := dk_42 (dk_at dksJ0_init_2_1 13 rfl rfl)
theorem dJ0_init_2_37 : decode cJ0_init_2 37 = .ok (.aconst_null, 1) := dk_1 (dk_at dksJ0_init_2_1 14 rfl rfl)
theorem dJ0_init_2_38 : decode cJ0_init_2 38 = .ok (.putfield 17, 3) := dk_181 0 17 (dk_at dksJ0_init_2_1 15 rfl rfl)
theorem dJ0_init_2_41 : decode cJ0_init_2 41 = .ok (.aload_n 0, 1) := dk_42 (dk_at dksJ0_init_2_1 18 rfl rfl)
theorem dJ0_init_2_42 : decode cJ0_init_2 42 = .ok (.aload_n 1, 1) := dk_43 (dk_at dksJ0_init_2_1 19 rfl rfl)
theorem dJ0_init_2_43 : decode cJ0_init_2 43 = .ok (.putfield 31, 3) := dk_181 0 31 (dk_at dksJ0_init_2_1 20 rfl rfl)
theorem dJ0_init_2_46 : decode cJ0_init_2 46 = .ok (.aload_n 0, 1) := dk_42 (dk_at dksJ0_init_2_1 23 rfl rfl)
theorem dJ0_init_2_47 : decode cJ0_init_2 47 = .ok (.aload_n 2, 1) := dk_44 (dk_at dksJ0_init_2_2 0 rfl rfl)
theorem dJ0_init_2_48 : decode cJ0_init_2 48 = .ok (.putfield 7, 3) := dk_181 0 7 (dk_at dksJ0_init_2_2 1 rfl rfl)
theorem dJ0_init_2_51 : decode cJ0_init_2 51 = .ok (.iload_n 3, 1) := dk_29 (dk_at dksJ0_init_2_2 4 rfl rfl)
theorem dJ0_init_2_52 : decode cJ0_init_2 52 = .ok (.ifCond .ne 8, 3) := dk_154 0 8 (dk_at dksJ0_init_2_2 5 rfl rfl)
theorem dJ0_init_2_55 : decode cJ0_init_2 55 = .ok (.aload_n 0, 1) := dk_42 (dk_at dksJ0_init_2_2 8 rfl rfl)
theorem dJ0_init_2_56 : decode cJ0_init_2 56 = .ok (.aconst_null, 1) := dk_1 (dk_at dksJ0_init_2_2 9 rfl rfl)
theorem dJ0_init_2_57 : decode cJ0_init_2 57 = .ok (.putfield 24, 3) := dk_181 0 24 (dk_at dksJ0_init_2_2 10 rfl rfl)
theorem dJ0_init_2_60 : decode cJ0_init_2 60 = .ok (.return_, 1) := dk_177 (dk_at dksJ0_init_2_2 13 rfl rfl)
abbrev cJ0_init_3 : ByteArray := prog_27_method_2_code
def yJ0_init_3 : MethodName := ⟨RJ0, "<init>", "(Ljava/lang/String;)V"⟩
def dkwJ0_init_3_1 : List UInt8 := [182, 0, 27, 87, 42, 43, 181, 0, 31, 177]
abbrev dktJ0_init_3_1 : List UInt8 := dkwJ0_init_3_1 ++ []
def dkwJ0_init_3_0 : List UInt8 := [42, 183, 0, 1, 42, 42, 181, 0, 7, 42, 178, 0, 13, 181, 0, 17, 42, 178, 0, 20, 181, 0, 24, 42]
abbrev dktJ0_init_3_0 : List UInt8 := dkwJ0_init_3_0 ++ dktJ0_init_3_1
theorem dksJ0_init_3_0 : cJ0_init_3.data.toList.drop 0 = dktJ0_init_3_0 := by decide +kernel
theorem dksJ0_init_3_1 : cJ0_init_3.data.toList.drop 24 = dktJ0_init_3_1 := dk_seg dksJ0_init_3_0 24 rfl rfl
theorem dJ0_init_3_0 : decode cJ0_init_3 0 = .ok (.aload_n 0, 1) := dk_42 (dk_at dksJ0_init_3_0 0 rfl rfl)
theorem dJ0_init_3_1 : decode cJ0_init_3 1 = .ok (.invokespecial 1, 3) := dk_183 0 1 (dk_at dksJ0_init_3_0 1 rfl rfl)
theorem dJ0_init_3_4 : decode cJ0_init_3 4 = .ok (.aload_n 0, 1) := dk_42 (dk_at dksJ0_init_3_0 4 rfl rfl)
theorem dJ0_init_3_5 : decode cJ0_init_3 5 = .ok (.aload_n 0, 1) := dk_42 (dk_at dksJ0_init_3_0 5 rfl rfl)
theorem dJ0_init_3_6 : decode cJ0_init_3 6 = .ok (.putfield 7, 3) := dk_181 0 7 (dk_at dksJ0_init_3_0 6 rfl rfl)
theorem dJ0_init_3_9 : decode cJ0_init_3 9 = .ok (.aload_n 0, 1) := dk_42 (dk_at dksJ0_init_3_0 9 rfl rfl)
theorem dJ0_init_3_10 : decode cJ0_init_3 10 = .ok (.getstatic 13, 3) := dk_178 0 13 (dk_at dksJ0_init_3_0 10 rfl rfl)
theorem dJ0_init_3_13 : decode cJ0_init_3 13 = .ok (.putfield 17, 3) := dk_181 0 17 (dk_at dksJ0_init_3_0 13 rfl rfl)
theorem dJ0_init_3_16 : decode cJ0_init_3 16 = .ok (.aload_n 0, 1) := dk_42 (dk_at dksJ0_init_3_0 16 rfl rfl)
theorem dJ0_init_3_17 : decode cJ0_init_3 17 = .ok (.getstatic 20, 3) := dk_178 0 20 (dk_at dksJ0_init_3_0 17 rfl rfl)
theorem dJ0_init_3_20 : decode cJ0_init_3 20 = .ok (.putfield 24, 3) := dk_181 0 24 (dk_at dksJ0_init_3_0 20 rfl rfl)
theorem dJ0_init_3_23 : decode cJ0_init_3 23 = .ok (.aload_n 0, 1) := dk_42 (dk_at dksJ0_init_3_0 23 rfl rfl)
theorem dJ0_init_3_24 : decode cJ0_init_3 24 = .ok (.invokevirtual 27, 3) := dk_182 0 27 (dk_at dksJ0_init_3_1 0 rfl rfl)
theorem dJ0_init_3_27 : decode cJ0_init_3 27 = .ok (.pop, 1) := dk_87 (dk_at dksJ0_init_3_1 3 rfl rfl)
theorem dJ0_init_3_28 : decode cJ0_init_3 28 = .ok (.aload_n 0, 1) := dk_42 (dk_at dksJ0_init_3_1 4 rfl rfl)
theorem dJ0_init_3_29 : decode cJ0_init_3 29 = .ok (.aload_n 1, 1) := dk_43 (dk_at dksJ0_init_3_1 5 rfl rfl)
theorem dJ0_init_3_30 : decode cJ0_init_3 30 = .ok (.putfield 31, 3) := dk_181 0 31 (dk_at dksJ0_init_3_1 6 rfl rfl)
theorem dJ0_init_3_33 : decode cJ0_init_3 33 = .ok (.return_, 1) := dk_177 (dk_at dksJ0_init_3_1 9 rfl rfl)
theorem q98 : (Jvm.Cond.initialized "java/lang/Throwable") ∈ lw_all := lw_g (lw_at lw_m1 2 rfl) rfl
theorem q136 : (Jvm.Cond.declares ({ cls := "java/lang/Throwable", name := "<init>", desc := "()V" } : Jvm.MethodName)) ∈ lw_tbl := lw_at lw_m1 40 rfl
theorem q137 : (Jvm.Cond.declares ({ cls := "java/lang/Throwable", name := "<init>", desc := "(Ljava/lang/String;)V" } : Jvm.MethodName)) ∈ lw_tbl := lw_at lw_m1 41 rfl
theorem q141 : (Jvm.Cond.lays "java/lang/Throwable" "java/lang/Throwable" "cause" "Ljava/lang/Throwable;") ∈ lw_all := lw_g (lw_at lw_m1 45 rfl) rfl
theorem q143 : (Jvm.Cond.lays "java/lang/Throwable" "java/lang/Throwable" "stackTrace" "[Ljava/lang/StackTraceElement;") ∈ lw_all := lw_g (lw_at lw_m1 47 rfl) rfl
theorem q145 : (Jvm.Cond.lays "java/lang/Throwable" "java/lang/Throwable" "suppressedExceptions" "Ljava/util/List;") ∈ lw_all := lw_g (lw_at lw_m1 49 rfl) rfl
theorem q147 : (Jvm.Cond.lays "java/lang/Throwable" "java/lang/Throwable" "detailMessage" "Ljava/lang/String;") ∈ lw_all := lw_g (lw_at lw_m1 51 rfl) rfl
theorem q149 : (Jvm.Cond.lays "java/lang/Throwable" "java/lang/Throwable" "backtrace" "Ljava/lang/Object;") ∈ lw_all := lw_g (lw_at lw_m1 53 rfl) rfl
theorem q150 : (Jvm.Cond.fieldLink "java/lang/Throwable" (198 : Nat) "java/lang/Throwable" "backtrace" "Ljava/lang/Object;") ∈ lw_all := lw_g (lw_at lw_m1 54 rfl) rfl
theorem q151 : (Jvm.Cond.superclass "java/lang/Throwable" "java/lang/Object") ∈ lw_all := lw_g (lw_at lw_m1 55 rfl) rfl
theorem q152 : (Jvm.Cond.instanceMethod ({ cls := "java/lang/Throwable", name := "<init>", desc := "()V" } : Jvm.MethodName)) ∈ lw_all := lw_g (lw_at lw_m1 56 rfl) rfl
theorem q153 : (Jvm.Cond.code ({ cls := "java/lang/Throwable", name := "<init>", desc := "()V" } : Jvm.MethodName) prog_27_method_1_code (1 : Nat) (Option.none : Option Jvm.ClassFile.FieldType)) ∈ lw_all := lw_g (lw_at lw_m1 57 rfl) rfl
theorem q154 : (Jvm.Cond.methodLink "java/lang/Throwable" (1 : Nat) ({ cls := "java/lang/Object", name := "<init>", desc := "()V" } : Jvm.MethodName)) ∈ lw_all := lw_g (lw_at lw_m1 58 rfl) rfl
theorem q155 : (Jvm.Cond.fieldLink "java/lang/Throwable" (13 : Nat) "java/lang/Throwable" "UNASSIGNED_STACK" "[Ljava/lang/StackTraceElement;") ∈ lw_all := lw_g (lw_at lw_m1 59 rfl) rfl
theorem q156 : (Jvm.Cond.laysStatic "java/lang/Throwable" "UNASSIGNED_STACK" "[Ljava/lang/StackTraceElement;") ∈ lw_tbl := lw_at lw_m1 60 rfl
theorem q157 : (Jvm.Cond.fieldLink "java/lang/Throwable" (20 : Nat) "java/lang/Throwable" "SUPPRESSED_SENTINEL" "Ljava/util/List;") ∈ lw_all := lw_g (lw_at lw_m1 61 rfl) rfl
theorem q158 : (Jvm.Cond.laysStatic "java/lang/Throwable" "SUPPRESSED_SENTINEL" "Ljava/util/List;") ∈ lw_tbl := lw_at lw_m1 62 rfl
theorem q159 : (Jvm.Cond.methodLink "java/lang/Throwable" (27 : Nat) ({ cls := "java/lang/Throwable", name := "fillInStackTrace", desc := "()Ljava/lang/Throwable;" } : Jvm.MethodName)) ∈ lw_all := lw_g (lw_at lw_m1 63 rfl) rfl
theorem q160 : (Jvm.Cond.instanceMethod ({ cls := "java/lang/Throwable", name := "fillInStackTrace", desc := "()Ljava/lang/Throwable;" } : Jvm.MethodName)) ∈ lw_all := lw_g (lw_at lw_m1 64 rfl) rfl
theorem q161 : (Jvm.Cond.sameMethod "java/lang/Throwable" "java/lang/Throwable" "fillInStackTrace" "()Ljava/lang/Throwable;") ∈ lw_all := lw_g (lw_at lw_m1 65 rfl) rfl
theorem q174 : (Jvm.Cond.declares ({ cls := "java/lang/Throwable", name := "fillInStackTrace", desc := "()Ljava/lang/Throwable;" } : Jvm.MethodName)) ∈ lw_tbl := lw_at lw_m1 78 rfl
theorem q178 : (Jvm.Cond.codeSync ({ cls := "java/lang/Throwable", name := "fillInStackTrace", desc := "()Ljava/lang/Throwable;" } : Jvm.MethodName) prog_27_method_18_code (1 : Nat) (Option.some (Jvm.ClassFile.FieldType.object "java/lang/Throwable"))) ∈ lw_all := lw_g (lw_at lw_m1 82 rfl) rfl
theorem q179 : (Jvm.Cond.methodLink "java/lang/Throwable" (202 : Nat) ({ cls := "java/lang/Throwable", name := "fillInStackTrace", desc := "(I)Ljava/lang/Throwable;" } : Jvm.MethodName)) ∈ lw_all := lw_g (lw_at lw_m1 83 rfl) rfl
theorem q180 : (Jvm.Cond.privateMethod ({ cls := "java/lang/Throwable", name := "fillInStackTrace", desc := "(I)Ljava/lang/Throwable;" } : Jvm.MethodName)) ∈ lw_tbl := lw_at lw_m1 84 rfl
theorem q181 : (Jvm.Cond.instanceMethod ({ cls := "java/lang/Throwable", name := "fillInStackTrace", desc := "(I)Ljava/lang/Throwable;" } : Jvm.MethodName)) ∈ lw_all := lw_g (lw_at lw_m1 85 rfl) rfl
theorem q182 : (Jvm.Cond.instantiable "java/lang/Throwable" (6 : Nat)) ∈ lw_all := lw_g (lw_at lw_m1 86 rfl) rfl
theorem q183 : (Jvm.Cond.native ({ cls := "java/lang/Throwable", name := "fillInStackTrace", desc := "(I)Ljava/lang/Throwable;" } : Jvm.MethodName)) ∈ lw_all := lw_g (lw_at lw_m1 87 rfl) rfl
theorem q194 : (Jvm.Cond.instanceMethod ({ cls := "java/lang/Throwable", name := "<init>", desc := "(Ljava/lang/String;Ljava/lang/Throwable;ZZ)V" } : Jvm.MethodName)) ∈ lw_all := lw_g (lw_at lw_m1 98 rfl) rfl
theorem q195 : (Jvm.Cond.code ({ cls := "java/lang/Throwable", name := "<init>", desc := "(Ljava/lang/String;Ljava/lang/Throwable;ZZ)V" } : Jvm.MethodName) prog_27_method_5_code (5 : Nat) (Option.none : Option Jvm.ClassFile.FieldType)) ∈ lw_all := lw_g (lw_at lw_m1 99 rfl) rfl
theorem q197 : (Jvm.Cond.fieldLink "java/lang/Throwable" (198 : Nat) "java/lang/Throwable" "backtrace" "Ljava/lang/Object;") ∈ lw_all := lw_g (lw_at lw_m1 101 rfl) rfl
theorem q198 : (Jvm.Cond.fieldLink "java/lang/Throwable" (31 : Nat) "java/lang/Throwable" "detailMessage" "Ljava/lang/String;") ∈ lw_all := lw_g (lw_at lw_m1 102 rfl) rfl
theorem q199 : (Jvm.Cond.fieldLink "java/lang/Throwable" (7 : Nat) "java/lang/Throwable" "cause" "Ljava/lang/Throwable;") ∈ lw_all := lw_g (lw_at lw_m1 103 rfl) rfl
theorem q200 : (Jvm.Cond.fieldLink "java/lang/Throwable" (17 : Nat) "java/lang/Throwable" "stackTrace" "[Ljava/lang/StackTraceElement;") ∈ lw_all := lw_g (lw_at lw_m1 104 rfl) rfl
theorem q201 : (Jvm.Cond.fieldLink "java/lang/Throwable" (24 : Nat) "java/lang/Throwable" "suppressedExceptions" "Ljava/util/List;") ∈ lw_all := lw_g (lw_at lw_m1 105 rfl) rfl
theorem q204 : (Jvm.Cond.soleField "java/lang/Throwable" "backtrace") ∈ lw_all := lw_g (lw_at lw_m1 108 rfl) rfl
theorem q205 : (Jvm.Cond.soleField "java/lang/Throwable" "detailMessage") ∈ lw_all := lw_g (lw_at lw_m1 109 rfl) rfl
theorem q206 : (Jvm.Cond.soleField "java/lang/Throwable" "cause") ∈ lw_all := lw_g (lw_at lw_m1 110 rfl) rfl
theorem q207 : (Jvm.Cond.soleField "java/lang/Throwable" "stackTrace") ∈ lw_all := lw_g (lw_at lw_m1 111 rfl) rfl
theorem q209 : (Jvm.Cond.soleField "java/lang/Throwable" "depth") ∈ lw_all := lw_g (lw_at lw_m1 113 rfl) rfl
theorem q210 : (Jvm.Cond.soleField "java/lang/Throwable" "suppressedExceptions") ∈ lw_all := lw_g (lw_at lw_m1 114 rfl) rfl
theorem q653 : (Jvm.Cond.instanceMethod ({ cls := "java/lang/Throwable", name := "<init>", desc := "(Ljava/lang/String;)V" } : Jvm.MethodName)) ∈ lw_all := lw_g (lw_at lw_m3 77 rfl) rfl
theorem q654 : (Jvm.Cond.code ({ cls := "java/lang/Throwable", name := "<init>", desc := "(Ljava/lang/String;)V" } : Jvm.MethodName) prog_27_method_2_code (2 : Nat) (Option.none : Option Jvm.ClassFile.FieldType)) ∈ lw_all := lw_g (lw_at lw_m3 78 rfl) rfl
theorem q1961 : (Jvm.Cond.sameMethod "java/lang/Throwable" "java/lang/Throwable" "fillInStackTrace" "(I)Ljava/lang/Throwable;") ∈ lw_all := lw_g (lw_at lw_m8 185 rfl) rfl
theorem in_J0 : ∀ w ∈ wsJ00, w ∈ lw_all := lw_in wsJ00 [141, 143, 145, 147, 149] (by decide +kernel) (by decide +kernel)
/-! java/lang/Exception -/
set_option maxRecDepth 100000
def RJ1 : String := "java/lang/Exception"
abbrev cJ1_init : ByteArray := prog_20_method_5_code
def yJ1_init : MethodName := ⟨RJ1, "<init>", "(Ljava/lang/String;Ljava/lang/Throwable;ZZ)V"⟩
def dkwJ1_init_0 : List UInt8 := [42, 43, 44, 29, 21, 4, 183, 0, 16, 177]
abbrev dktJ1_init_0 : List UInt8 := dkwJ1_init_0 ++ []
theorem dksJ1_init_0 : cJ1_init.data.toList.drop 0 = dktJ1_init_0 := by decide +kernel
theorem dJ1_init_0 : decode cJ1_init 0 = .ok (.aload_n 0, 1) := dk_42 (dk_at dksJ1_init_0 0 rfl rfl)
theorem dJ1_init_1 : decode cJ1_init 1 = .ok (.aload_n 1, 1) := dk_43 (dk_at dksJ1_init_0 1 rfl rfl)
theorem dJ1_init_2 : decode cJ1_init 2 = .ok (.aload_n 2, 1) := dk_44 (dk_at dksJ1_init_0 2 rfl rfl)
theorem dJ1_init_3 : decode cJ1_init 3 = .ok (.iload_n 3, 1) := dk_29 (dk_at dksJ1_init_0 3 rfl rfl)
theorem dJ1_init_4 : decode cJ1_init 4 = .ok (.iload 4, 2) := dk_21 4 (dk_at dksJ1_init_0 4 rfl rfl)
theorem dJ1_init_6 : decode cJ1_init 6 = .ok (.invokespecial 16, 3) := dk_183 0 16 (dk_at dksJ1_init_0 6 rfl rfl)
theorem dJ1_init_9 : decode cJ1_init 9 = .ok (.return_, 1) := dk_177 (dk_at dksJ1_init_0 9 rfl rfl)
abbrev cJ1_init_2 : ByteArray := prog_20_method_2_code
def yJ1_init_2 : MethodName := ⟨RJ1, "<init>", "(Ljava/lang/String;)V"⟩
def dkwJ1_init_2_0 : List UInt8 := [42, 43, 183, 0, 7, 177]
abbrev dktJ1_init_2_0 : List UInt8 := dkwJ1_init_2_0 ++ []
theorem dksJ1_init_2_0 : cJ1_init_2.data.toList.drop 0 = dktJ1_init_2_0 := by decide +kernel
theorem dJ1_init_2_0 : decode cJ1_init_2 0 = .ok (.aload_n 0, 1) := dk_42 (dk_at dksJ1_init_2_0 0 rfl rfl)
theorem dJ1_init_2_1 : decode cJ1_init_2 1 = .ok (.aload_n 1, 1) := dk_43 (dk_at dksJ1_init_2_0 1 rfl rfl)
theorem dJ1_init_2_2 : decode cJ1_init_2 2 = .ok (.invokespecial 7, 3) := dk_183 0 7 (dk_at dksJ1_init_2_0 2 rfl rfl)
theorem dJ1_init_2_5 : decode cJ1_init_2 5 = .ok (.return_, 1) := dk_177 (dk_at dksJ1_init_2_0 5 rfl rfl)
abbrev cJ1_init_3 : ByteArray := prog_20_method_1_code
def yJ1_init_3 : MethodName := ⟨RJ1, "<init>", "()V"⟩
theorem dJ1_init_3_0 : decode cJ1_init_3 0 = .ok (.aload_n 0, 1) := by decide +kernel
theorem dJ1_init_3_1 : decode cJ1_init_3 1 = .ok (.invokespecial 1, 3) := by decide +kernel
theorem dJ1_init_3_4 : decode cJ1_init_3 4 = .ok (.return_, 1) := by decide +kernel
theorem q99 : (Jvm.Cond.initialized "java/lang/Exception") ∈ lw_all := lw_g (lw_at lw_m1 3 rfl) rfl
theorem q134 : (Jvm.Cond.declares ({ cls := "java/lang/Exception", name := "<init>", desc := "()V" } : Jvm.MethodName)) ∈ lw_tbl := lw_at lw_m1 38 rfl
theorem q135 : (Jvm.Cond.declares ({ cls := "java/lang/Exception", name := "<init>", desc := "(Ljava/lang/String;)V" } : Jvm.MethodName)) ∈ lw_tbl := lw_at lw_m1 39 rfl
theorem q177 : (Jvm.Cond.superclass "java/lang/Exception" "java/lang/Throwable") ∈ lw_all := lw_g (lw_at lw_m1 81 rfl) rfl
theorem q191 : (Jvm.Cond.instanceMethod ({ cls := "java/lang/Exception", name := "<init>", desc := "(Ljava/lang/String;Ljava/lang/Throwable;ZZ)V" } : Jvm.MethodName)) ∈ lw_all := lw_g (lw_at lw_m1 95 rfl) rfl
theorem q192 : (Jvm.Cond.code ({ cls := "java/lang/Exception", name := "<init>", desc := "(Ljava/lang/String;Ljava/lang/Throwable;ZZ)V" } : Jvm.MethodName) prog_20_method_5_code (5 : Nat) (Option.none : Option Jvm.ClassFile.FieldType)) ∈ lw_all := lw_g (lw_at lw_m1 96 rfl) rfl
theorem q193 : (Jvm.Cond.methodLink "java/lang/Exception" (16 : Nat) ({ cls := "java/lang/Throwable", name := "<init>", desc := "(Ljava/lang/String;Ljava/lang/Throwable;ZZ)V" } : Jvm.MethodName)) ∈ lw_all := lw_g (lw_at lw_m1 97 rfl) rfl
theorem q650 : (Jvm.Cond.instanceMethod ({ cls := "java/lang/Exception", name := "<init>", desc := "(Ljava/lang/String;)V" } : Jvm.MethodName)) ∈ lw_all := lw_g (lw_at lw_m3 74 rfl) rfl
theorem q651 : (Jvm.Cond.code ({ cls := "java/lang/Exception", name := "<init>", desc := "(Ljava/lang/String;)V" } : Jvm.MethodName) prog_20_method_2_code (2 : Nat) (Option.none : Option Jvm.ClassFile.FieldType)) ∈ lw_all := lw_g (lw_at lw_m3 75 rfl) rfl
theorem q652 : (Jvm.Cond.methodLink "java/lang/Exception" (7 : Nat) ({ cls := "java/lang/Throwable", name := "<init>", desc := "(Ljava/lang/String;)V" } : Jvm.MethodName)) ∈ lw_all := lw_g (lw_at lw_m3 76 rfl) rfl
theorem q677 : (Jvm.Cond.instanceMethod ({ cls := "java/lang/Exception", name := "<init>", desc := "()V" } : Jvm.MethodName)) ∈ lw_all := lw_g (lw_at lw_m3 101 rfl) rfl
theorem q678 : (Jvm.Cond.code ({ cls := "java/lang/Exception", name := "<init>", desc := "()V" } : Jvm.MethodName) prog_20_method_1_code (1 : Nat) (Option.none : Option Jvm.ClassFile.FieldType)) ∈ lw_all := lw_g (lw_at lw_m3 102 rfl) rfl
theorem q679 : (Jvm.Cond.methodLink "java/lang/Exception" (1 : Nat) ({ cls := "java/lang/Throwable", name := "<init>", desc := "()V" } : Jvm.MethodName)) ∈ lw_all := lw_g (lw_at lw_m3 103 rfl) rfl
/-! java/lang/RuntimeException -/
set_option maxRecDepth 100000
def RJ2 : String := "java/lang/RuntimeException"
abbrev cJ2_init : ByteArray := prog_24_method_5_code
def yJ2_init : MethodName := ⟨RJ2, "<init>", "(Ljava/lang/String;Ljava/lang/Throwable;ZZ)V"⟩
def dkwJ2_init_0 : List UInt8 := [42, 43, 44, 29, 21, 4, 183, 0, 16, 177]
abbrev dktJ2_init_0 : List UInt8 := dkwJ2_init_0 ++ []
theorem dksJ2_init_0 : cJ2_init.data.toList.drop 0 = dktJ2_init_0 := by decide +kernel
theorem dJ2_init_0 : decode cJ2_init 0 = .ok (.aload_n 0, 1) := dk_42 (dk_at dksJ2_init_0 0 rfl rfl)
theorem dJ2_init_1 : decode cJ2_init 1 = .ok (.aload_n 1, 1) := dk_43 (dk_at dksJ2_init_0 1 rfl rfl)
theorem dJ2_init_2 : decode cJ2_init 2 = .ok (.aload_n 2, 1) := dk_44 (dk_at dksJ2_init_0 2 rfl rfl)
theorem dJ2_init_3 : decode cJ2_init 3 = .ok (.iload_n 3, 1) := dk_29 (dk_at dksJ2_init_0 3 rfl rfl)
theorem dJ2_init_4 : decode cJ2_init 4 = .ok (.iload 4, 2) := dk_21 4 (dk_at dksJ2_init_0 4 rfl rfl)
theorem dJ2_init_6 : decode cJ2_init 6 = .ok (.invokespecial 16, 3) := dk_183 0 16 (dk_at dksJ2_init_0 6 rfl rfl)
theorem dJ2_init_9 : decode cJ2_init 9 = .ok (.return_, 1) := dk_177 (dk_at dksJ2_init_0 9 rfl rfl)
abbrev cJ2_init_2 : ByteArray := prog_24_method_2_code
def yJ2_init_2 : MethodName := ⟨RJ2, "<init>", "(Ljava/lang/String;)V"⟩
def dkwJ2_init_2_0 : List UInt8 := [42, 43, 183, 0, 7, 177]
abbrev dktJ2_init_2_0 : List UInt8 := dkwJ2_init_2_0 ++ []
theorem dksJ2_init_2_0 : cJ2_init_2.data.toList.drop 0 = dktJ2_init_2_0 := by decide +kernel
theorem dJ2_init_2_0 : decode cJ2_init_2 0 = .ok (.aload_n 0, 1) := dk_42 (dk_at dksJ2_init_2_0 0 rfl rfl)
theorem dJ2_init_2_1 : decode cJ2_init_2 1 = .ok (.aload_n 1, 1) := dk_43 (dk_at dksJ2_init_2_0 1 rfl rfl)
theorem dJ2_init_2_2 : decode cJ2_init_2 2 = .ok (.invokespecial 7, 3) := dk_183 0 7 (dk_at dksJ2_init_2_0 2 rfl rfl)
theorem dJ2_init_2_5 : decode cJ2_init_2 5 = .ok (.return_, 1) := dk_177 (dk_at dksJ2_init_2_0 5 rfl rfl)
abbrev cJ2_init_3 : ByteArray := prog_24_method_1_code
def yJ2_init_3 : MethodName := ⟨RJ2, "<init>", "()V"⟩
theorem dJ2_init_3_0 : decode cJ2_init_3 0 = .ok (.aload_n 0, 1) := by decide +kernel
theorem dJ2_init_3_1 : decode cJ2_init_3 1 = .ok (.invokespecial 1, 3) := by decide +kernel
theorem dJ2_init_3_4 : decode cJ2_init_3 4 = .ok (.return_, 1) := by decide +kernel
theorem q100 : (Jvm.Cond.initialized "java/lang/RuntimeException") ∈ lw_all := lw_g (lw_at lw_m1 4 rfl) rfl
theorem q132 : (Jvm.Cond.declares ({ cls := "java/lang/RuntimeException", name := "<init>", desc := "()V" } : Jvm.MethodName)) ∈ lw_tbl := lw_at lw_m1 36 rfl
theorem q133 : (Jvm.Cond.declares ({ cls := "java/lang/RuntimeException", name := "<init>", desc := "(Ljava/lang/String;)V" } : Jvm.MethodName)) ∈ lw_tbl := lw_at lw_m1 37 rfl
theorem q173 : (Jvm.Cond.sameMethod "java/lang/RuntimeException" "java/lang/Throwable" "fillInStackTrace" "()Ljava/lang/Throwable;") ∈ lw_all := lw_g (lw_at lw_m1 77 rfl) rfl
theorem q176 : (Jvm.Cond.superclass "java/lang/RuntimeException" "java/lang/Exception") ∈ lw_all := lw_g (lw_at lw_m1 80 rfl) rfl
theorem q188 : (Jvm.Cond.instanceMethod ({ cls := "java/lang/RuntimeException", name := "<init>", desc := "(Ljava/lang/String;Ljava/lang/Throwable;ZZ)V" } : Jvm.MethodName)) ∈ lw_all := lw_g (lw_at lw_m1 92 rfl) rfl
theorem q189 : (Jvm.Cond.code ({ cls := "java/lang/RuntimeException", name := "<init>", desc := "(Ljava/lang/String;Ljava/lang/Throwable;ZZ)V" } : Jvm.MethodName) prog_24_method_5_code (5 : Nat) (Option.none : Option Jvm.ClassFile.FieldType)) ∈ lw_all := lw_g (lw_at lw_m1 93 rfl) rfl
theorem q190 : (Jvm.Cond.methodLink "java/lang/RuntimeException" (16 : Nat) ({ cls := "java/lang/Exception", name := "<init>", desc := "(Ljava/lang/String;Ljava/lang/Throwable;ZZ)V" } : Jvm.MethodName)) ∈ lw_all := lw_g (lw_at lw_m1 94 rfl) rfl
theorem q647 : (Jvm.Cond.instanceMethod ({ cls := "java/lang/RuntimeException", name := "<init>", desc := "(Ljava/lang/String;)V" } : Jvm.MethodName)) ∈ lw_all := lw_g (lw_at lw_m3 71 rfl) rfl
theorem q648 : (Jvm.Cond.code ({ cls := "java/lang/RuntimeException", name := "<init>", desc := "(Ljava/lang/String;)V" } : Jvm.MethodName) prog_24_method_2_code (2 : Nat) (Option.none : Option Jvm.ClassFile.FieldType)) ∈ lw_all := lw_g (lw_at lw_m3 72 rfl) rfl
theorem q649 : (Jvm.Cond.methodLink "java/lang/RuntimeException" (7 : Nat) ({ cls := "java/lang/Exception", name := "<init>", desc := "(Ljava/lang/String;)V" } : Jvm.MethodName)) ∈ lw_all := lw_g (lw_at lw_m3 73 rfl) rfl
theorem q674 : (Jvm.Cond.instanceMethod ({ cls := "java/lang/RuntimeException", name := "<init>", desc := "()V" } : Jvm.MethodName)) ∈ lw_all := lw_g (lw_at lw_m3 98 rfl) rfl
theorem q675 : (Jvm.Cond.code ({ cls := "java/lang/RuntimeException", name := "<init>", desc := "()V" } : Jvm.MethodName) prog_24_method_1_code (1 : Nat) (Option.none : Option Jvm.ClassFile.FieldType)) ∈ lw_all := lw_g (lw_at lw_m3 99 rfl) rfl
theorem q676 : (Jvm.Cond.methodLink "java/lang/RuntimeException" (1 : Nat) ({ cls := "java/lang/Exception", name := "<init>", desc := "()V" } : Jvm.MethodName)) ∈ lw_all := lw_g (lw_at lw_m3 100 rfl) rfl
theorem q694 : (Jvm.Cond.castable "java/lang/RuntimeException" "java/lang/Throwable") ∈ lw_tbl := lw_at lw_m3 118 rfl
/-! java/lang/ClassCastException -/
set_option maxRecDepth 100000
def RJ3 : String := "java/lang/ClassCastException"
def TJ3 : u_T := fun k => match k with
  | 0 => ("java/lang/Throwable", "backtrace", "Ljava/lang/Object;", false)
  | 1 => ("java/lang/Throwable", "detailMessage", "Ljava/lang/String;", false)
  | 2 => ("java/lang/Throwable", "cause", "Ljava/lang/Throwable;", false)
  | 3 => ("java/lang/Throwable", "stackTrace", "[Ljava/lang/StackTraceElement;", false)
  | 4 => ("java/lang/Throwable", "depth", "I", false)
  | _ => ("java/lang/Throwable", "suppressedExceptions", "Ljava/util/List;", false)
def tyJ3 : Nat → FieldType := fun k => match k with
  | 0 => .object "java/lang/Object"
  | 1 => .object "java/lang/String"
  | 2 => .object "java/lang/Throwable"
  | 3 => .array (.object "java/lang/StackTraceElement")
  | 4 => .int
  | _ => .object "java/util/List"
abbrev wsJ30 : List Cond := u_ws RJ3 TJ3 6
theorem nmJ3 : ∀ a, a < 6 → ∀ b, b < 6 → a ≠ b → (TJ3 a).2.1 ≠ (TJ3 b).2.1 := by decide +kernel
theorem tyJ3_ok : ∀ k, k < 6 → parseFieldDescriptor (TJ3 k).2.2.1 = some (tyJ3 k) := by decide +kernel
abbrev cJ3_init : ByteArray := prog_19_method_2_code
def yJ3_init : MethodName := ⟨RJ3, "<init>", "(Ljava/lang/String;)V"⟩
def dkwJ3_init_0 : List UInt8 := [42, 43, 183, 0, 7, 177]
abbrev dktJ3_init_0 : List UInt8 := dkwJ3_init_0 ++ []
theorem dksJ3_init_0 : cJ3_init.data.toList.drop 0 = dktJ3_init_0 := by decide +kernel
theorem dJ3_init_0 : decode cJ3_init 0 = .ok (.aload_n 0, 1) := dk_42 (dk_at dksJ3_init_0 0 rfl rfl)
theorem dJ3_init_1 : decode cJ3_init 1 = .ok (.aload_n 1, 1) := dk_43 (dk_at dksJ3_init_0 1 rfl rfl)
theorem dJ3_init_2 : decode cJ3_init 2 = .ok (.invokespecial 7, 3) := dk_183 0 7 (dk_at dksJ3_init_0 2 rfl rfl)
theorem dJ3_init_5 : decode cJ3_init 5 = .ok (.return_, 1) := dk_177 (dk_at dksJ3_init_0 5 rfl rfl)
theorem q114 : (Jvm.Cond.initialized "java/lang/ClassCastException") ∈ lw_all := lw_g (lw_at lw_m1 18 rfl) rfl
theorem q163 : (Jvm.Cond.selects "java/lang/ClassCastException" ({ cls := "java/lang/Throwable", name := "fillInStackTrace", desc := "()Ljava/lang/Throwable;" } : Jvm.MethodName) ({ cls := "java/lang/Throwable", name := "fillInStackTrace", desc := "()Ljava/lang/Throwable;" } : Jvm.MethodName)) ∈ lw_all := lw_g (lw_at lw_m1 67 rfl) rfl
theorem q643 : (Jvm.Cond.instantiable "java/lang/ClassCastException" (6 : Nat)) ∈ lw_all := lw_g (lw_at lw_m3 67 rfl) rfl
theorem q644 : (Jvm.Cond.instanceMethod ({ cls := "java/lang/ClassCastException", name := "<init>", desc := "(Ljava/lang/String;)V" } : Jvm.MethodName)) ∈ lw_all := lw_g (lw_at lw_m3 68 rfl) rfl
theorem q645 : (Jvm.Cond.code ({ cls := "java/lang/ClassCastException", name := "<init>", desc := "(Ljava/lang/String;)V" } : Jvm.MethodName) prog_19_method_2_code (2 : Nat) (Option.none : Option Jvm.ClassFile.FieldType)) ∈ lw_all := lw_g (lw_at lw_m3 69 rfl) rfl
theorem q646 : (Jvm.Cond.methodLink "java/lang/ClassCastException" (7 : Nat) ({ cls := "java/lang/RuntimeException", name := "<init>", desc := "(Ljava/lang/String;)V" } : Jvm.MethodName)) ∈ lw_all := lw_g (lw_at lw_m3 70 rfl) rfl
theorem q655 : (Jvm.Cond.lays "java/lang/ClassCastException" "java/lang/Throwable" "backtrace" "Ljava/lang/Object;") ∈ lw_all := lw_g (lw_at lw_m3 79 rfl) rfl
theorem q656 : (Jvm.Cond.lays "java/lang/ClassCastException" "java/lang/Throwable" "detailMessage" "Ljava/lang/String;") ∈ lw_all := lw_g (lw_at lw_m3 80 rfl) rfl
theorem q657 : (Jvm.Cond.lays "java/lang/ClassCastException" "java/lang/Throwable" "cause" "Ljava/lang/Throwable;") ∈ lw_all := lw_g (lw_at lw_m3 81 rfl) rfl
theorem q658 : (Jvm.Cond.lays "java/lang/ClassCastException" "java/lang/Throwable" "stackTrace" "[Ljava/lang/StackTraceElement;") ∈ lw_all := lw_g (lw_at lw_m3 82 rfl) rfl
theorem q659 : (Jvm.Cond.lays "java/lang/ClassCastException" "java/lang/Throwable" "depth" "I") ∈ lw_all := lw_g (lw_at lw_m3 83 rfl) rfl
theorem q660 : (Jvm.Cond.lays "java/lang/ClassCastException" "java/lang/Throwable" "suppressedExceptions" "Ljava/util/List;") ∈ lw_all := lw_g (lw_at lw_m3 84 rfl) rfl
theorem q661 : (Jvm.Cond.superclass "java/lang/ClassCastException" "java/lang/RuntimeException") ∈ lw_all := lw_g (lw_at lw_m3 85 rfl) rfl
theorem q662 : (Jvm.Cond.castable "java/lang/ClassCastException" "java/lang/ClassCastException") ∈ lw_tbl := lw_at lw_m3 86 rfl
theorem q663 : (Jvm.Cond.selects "java/lang/ClassCastException" ({ cls := "java/lang/Throwable", name := "fillInStackTrace", desc := "(I)Ljava/lang/Throwable;" } : Jvm.MethodName) ({ cls := "java/lang/Throwable", name := "fillInStackTrace", desc := "(I)Ljava/lang/Throwable;" } : Jvm.MethodName)) ∈ lw_all := lw_g (lw_at lw_m3 87 rfl) rfl
theorem in_J3 : ∀ w ∈ wsJ30, w ∈ lw_all := lw_in wsJ30 [655, 656, 657, 658, 659, 660] (by decide +kernel) (by decide +kernel)
/-! java/lang/String -/
set_option maxRecDepth 100000
def RJ4 : String := "java/lang/String"
def TJ4 : u_T := fun k => match k with
  | 0 => ("java/lang/String", "value", "[B", true)
  | _ => ("java/lang/String", "coder", "B", true)
def tyJ4 : Nat → FieldType := fun k => match k with
  | 0 => .array .byte
  | _ => .byte
abbrev wsJ40 : List Cond := u_ws RJ4 TJ4 2
theorem nmJ4 : ∀ a, a < 2 → ∀ b, b < 2 → a ≠ b → (TJ4 a).2.1 ≠ (TJ4 b).2.1 := by decide +kernel
theorem tyJ4_ok : ∀ k, k < 2 → parseFieldDescriptor (TJ4 k).2.2.1 = some (tyJ4 k) := by decide +kernel
theorem q115 : (Jvm.Cond.initialized "java/lang/String") ∈ lw_all := lw_g (lw_at lw_m1 19 rfl) rfl
theorem q664 : (Jvm.Cond.instantiable "java/lang/String" (4 : Nat)) ∈ lw_all := lw_g (lw_at lw_m3 88 rfl) rfl
theorem q666 : (Jvm.Cond.laysFinal "java/lang/String" "java/lang/String" "value" "[B") ∈ lw_all := lw_g (lw_at lw_m3 90 rfl) rfl
theorem q667 : (Jvm.Cond.soleField "java/lang/String" "value") ∈ lw_all := lw_g (lw_at lw_m3 91 rfl) rfl
theorem q668 : (Jvm.Cond.laysFinal "java/lang/String" "java/lang/String" "coder" "B") ∈ lw_all := lw_g (lw_at lw_m3 92 rfl) rfl
theorem q669 : (Jvm.Cond.soleField "java/lang/String" "coder") ∈ lw_all := lw_g (lw_at lw_m3 93 rfl) rfl
theorem in_J4 : ∀ w ∈ wsJ40, w ∈ lw_all := lw_in wsJ40 [666, 668] (by decide +kernel) (by decide +kernel)
/-! java/lang/NullPointerException -/
set_option maxRecDepth 100000
def RJ5 : String := "java/lang/NullPointerException"
def TJ5 : u_T := fun k => match k with
  | 0 => ("java/lang/Throwable", "backtrace", "Ljava/lang/Object;", false)
  | 1 => ("java/lang/Throwable", "detailMessage", "Ljava/lang/String;", false)
  | 2 => ("java/lang/Throwable", "cause", "Ljava/lang/Throwable;", false)
  | 3 => ("java/lang/Throwable", "stackTrace", "[Ljava/lang/StackTraceElement;", false)
  | 4 => ("java/lang/Throwable", "depth", "I", false)
  | 5 => ("java/lang/Throwable", "suppressedExceptions", "Ljava/util/List;", false)
  | 6 => ("java/lang/NullPointerException", "extendedMessageState", "I", false)
  | _ => ("java/lang/NullPointerException", "extendedMessage", "Ljava/lang/String;", false)
def tyJ5 : Nat → FieldType := fun k => match k with
  | 0 => .object "java/lang/Object"
  | 1 => .object "java/lang/String"
  | 2 => .object "java/lang/Throwable"
  | 3 => .array (.object "java/lang/StackTraceElement")
  | 4 => .int
  | 5 => .object "java/util/List"
  | 6 => .int
  | _ => .object "java/lang/String"
abbrev wsJ50 : List Cond := u_ws RJ5 TJ5 8
theorem nmJ5 : ∀ a, a < 8 → ∀ b, b < 8 → a ≠ b → (TJ5 a).2.1 ≠ (TJ5 b).2.1 := by decide +kernel
theorem tyJ5_ok : ∀ k, k < 8 → parseFieldDescriptor (TJ5 k).2.2.1 = some (tyJ5 k) := by decide +kernel
abbrev cJ5_init : ByteArray := prog_23_method_1_code
def yJ5_init : MethodName := ⟨RJ5, "<init>", "()V"⟩
theorem dJ5_init_0 : decode cJ5_init 0 = .ok (.aload_n 0, 1) := by decide +kernel
theorem dJ5_init_1 : decode cJ5_init 1 = .ok (.invokespecial 1, 3) := by decide +kernel
theorem dJ5_init_4 : decode cJ5_init 4 = .ok (.return_, 1) := by decide +kernel
theorem q116 : (Jvm.Cond.initialized "java/lang/NullPointerException") ∈ lw_all := lw_g (lw_at lw_m1 20 rfl) rfl
theorem q164 : (Jvm.Cond.selects "java/lang/NullPointerException" ({ cls := "java/lang/Throwable", name := "fillInStackTrace", desc := "()Ljava/lang/Throwable;" } : Jvm.MethodName) ({ cls := "java/lang/NullPointerException", name := "fillInStackTrace", desc := "()Ljava/lang/Throwable;" } : Jvm.MethodName)) ∈ lw_all := lw_g (lw_at lw_m1 68 rfl) rfl
theorem q165 : (Jvm.Cond.instanceMethod ({ cls := "java/lang/NullPointerException", name := "fillInStackTrace", desc := "()Ljava/lang/Throwable;" } : Jvm.MethodName)) ∈ lw_all := lw_g (lw_at lw_m1 69 rfl) rfl
theorem q166 : (Jvm.Cond.codeSync ({ cls := "java/lang/NullPointerException", name := "fillInStackTrace", desc := "()Ljava/lang/Throwable;" } : Jvm.MethodName) prog_23_method_3_code (1 : Nat) (Option.some (Jvm.ClassFile.FieldType.object "java/lang/Throwable"))) ∈ lw_all := lw_g (lw_at lw_m1 70 rfl) rfl
theorem q167 : (Jvm.Cond.methodLink "java/lang/NullPointerException" (16 : Nat) ({ cls := "java/lang/NullPointerException", name := "getExtendedNPEMessage", desc := "()Ljava/lang/String;" } : Jvm.MethodName)) ∈ lw_all := lw_g (lw_at lw_m1 71 rfl) rfl
theorem q168 : (Jvm.Cond.privateMethod ({ cls := "java/lang/NullPointerException", name := "getExtendedNPEMessage", desc := "()Ljava/lang/String;" } : Jvm.MethodName)) ∈ lw_tbl := lw_at lw_m1 72 rfl
theorem q169 : (Jvm.Cond.instanceMethod ({ cls := "java/lang/NullPointerException", name := "getExtendedNPEMessage", desc := "()Ljava/lang/String;" } : Jvm.MethodName)) ∈ lw_all := lw_g (lw_at lw_m1 73 rfl) rfl
theorem q170 : (Jvm.Cond.instantiable "java/lang/NullPointerException" (8 : Nat)) ∈ lw_all := lw_g (lw_at lw_m1 74 rfl) rfl
theorem q171 : (Jvm.Cond.native ({ cls := "java/lang/NullPointerException", name := "getExtendedNPEMessage", desc := "()Ljava/lang/String;" } : Jvm.MethodName)) ∈ lw_all := lw_g (lw_at lw_m1 75 rfl) rfl
theorem q172 : (Jvm.Cond.methodLink "java/lang/NullPointerException" (24 : Nat) ({ cls := "java/lang/RuntimeException", name := "fillInStackTrace", desc := "()Ljava/lang/Throwable;" } : Jvm.MethodName)) ∈ lw_all := lw_g (lw_at lw_m1 76 rfl) rfl
theorem q175 : (Jvm.Cond.superclass "java/lang/NullPointerException" "java/lang/RuntimeException") ∈ lw_all := lw_g (lw_at lw_m1 79 rfl) rfl
theorem q671 : (Jvm.Cond.instanceMethod ({ cls := "java/lang/NullPointerException", name := "<init>", desc := "()V" } : Jvm.MethodName)) ∈ lw_all := lw_g (lw_at lw_m3 95 rfl) rfl
theorem q672 : (Jvm.Cond.code ({ cls := "java/lang/NullPointerException", name := "<init>", desc := "()V" } : Jvm.MethodName) prog_23_method_1_code (1 : Nat) (Option.none : Option Jvm.ClassFile.FieldType)) ∈ lw_all := lw_g (lw_at lw_m3 96 rfl) rfl
theorem q673 : (Jvm.Cond.methodLink "java/lang/NullPointerException" (1 : Nat) ({ cls := "java/lang/RuntimeException", name := "<init>", desc := "()V" } : Jvm.MethodName)) ∈ lw_all := lw_g (lw_at lw_m3 97 rfl) rfl
theorem q680 : (Jvm.Cond.fieldLink "java/lang/NullPointerException" (10 : Nat) "java/lang/NullPointerException" "extendedMessageState" "I") ∈ lw_all := lw_g (lw_at lw_m3 104 rfl) rfl
theorem q681 : (Jvm.Cond.fieldLink "java/lang/NullPointerException" (20 : Nat) "java/lang/NullPointerException" "extendedMessage" "Ljava/lang/String;") ∈ lw_all := lw_g (lw_at lw_m3 105 rfl) rfl
theorem q682 : (Jvm.Cond.lays "java/lang/NullPointerException" "java/lang/NullPointerException" "extendedMessageState" "I") ∈ lw_all := lw_g (lw_at lw_m3 106 rfl) rfl
theorem q683 : (Jvm.Cond.soleField "java/lang/NullPointerException" "extendedMessageState") ∈ lw_all := lw_g (lw_at lw_m3 107 rfl) rfl
theorem q684 : (Jvm.Cond.lays "java/lang/NullPointerException" "java/lang/NullPointerException" "extendedMessage" "Ljava/lang/String;") ∈ lw_all := lw_g (lw_at lw_m3 108 rfl) rfl
theorem q685 : (Jvm.Cond.soleField "java/lang/NullPointerException" "extendedMessage") ∈ lw_all := lw_g (lw_at lw_m3 109 rfl) rfl
theorem q686 : (Jvm.Cond.lays "java/lang/NullPointerException" "java/lang/Throwable" "backtrace" "Ljava/lang/Object;") ∈ lw_all := lw_g (lw_at lw_m3 110 rfl) rfl
theorem q687 : (Jvm.Cond.lays "java/lang/NullPointerException" "java/lang/Throwable" "detailMessage" "Ljava/lang/String;") ∈ lw_all := lw_g (lw_at lw_m3 111 rfl) rfl
theorem q688 : (Jvm.Cond.lays "java/lang/NullPointerException" "java/lang/Throwable" "cause" "Ljava/lang/Throwable;") ∈ lw_all := lw_g (lw_at lw_m3 112 rfl) rfl
theorem q689 : (Jvm.Cond.lays "java/lang/NullPointerException" "java/lang/Throwable" "stackTrace" "[Ljava/lang/StackTraceElement;") ∈ lw_all := lw_g (lw_at lw_m3 113 rfl) rfl
theorem q690 : (Jvm.Cond.lays "java/lang/NullPointerException" "java/lang/Throwable" "depth" "I") ∈ lw_all := lw_g (lw_at lw_m3 114 rfl) rfl
theorem q691 : (Jvm.Cond.lays "java/lang/NullPointerException" "java/lang/Throwable" "suppressedExceptions" "Ljava/util/List;") ∈ lw_all := lw_g (lw_at lw_m3 115 rfl) rfl
theorem q692 : (Jvm.Cond.castable "java/lang/NullPointerException" "java/lang/NullPointerException") ∈ lw_tbl := lw_at lw_m3 116 rfl
theorem q693 : (Jvm.Cond.selects "java/lang/NullPointerException" ({ cls := "java/lang/Throwable", name := "fillInStackTrace", desc := "(I)Ljava/lang/Throwable;" } : Jvm.MethodName) ({ cls := "java/lang/Throwable", name := "fillInStackTrace", desc := "(I)Ljava/lang/Throwable;" } : Jvm.MethodName)) ∈ lw_all := lw_g (lw_at lw_m3 117 rfl) rfl
theorem in_J5 : ∀ w ∈ wsJ50, w ∈ lw_all := lw_in wsJ50 [686, 687, 688, 689, 690, 691, 682, 684] (by decide +kernel) (by decide +kernel)
/-! java/lang/IndexOutOfBoundsException -/
set_option maxRecDepth 100000
def RJ6 : String := "java/lang/IndexOutOfBoundsException"
abbrev cJ6_init : ByteArray := prog_21_method_2_code
def yJ6_init : MethodName := ⟨RJ6, "<init>", "(Ljava/lang/String;)V"⟩
def dkwJ6_init_0 : List UInt8 := [42, 43, 183, 0, 7, 177]
abbrev dktJ6_init_0 : List UInt8 := dkwJ6_init_0 ++ []
theorem dksJ6_init_0 : cJ6_init.data.toList.drop 0 = dktJ6_init_0 := by decide +kernel
theorem dJ6_init_0 : decode cJ6_init 0 = .ok (.aload_n 0, 1) := dk_42 (dk_at dksJ6_init_0 0 rfl rfl)
theorem dJ6_init_1 : decode cJ6_init 1 = .ok (.aload_n 1, 1) := dk_43 (dk_at dksJ6_init_0 1 rfl rfl)
theorem dJ6_init_2 : decode cJ6_init 2 = .ok (.invokespecial 7, 3) := dk_183 0 7 (dk_at dksJ6_init_0 2 rfl rfl)
theorem dJ6_init_5 : decode cJ6_init 5 = .ok (.return_, 1) := dk_177 (dk_at dksJ6_init_0 5 rfl rfl)
theorem q117 : (Jvm.Cond.initialized "java/lang/IndexOutOfBoundsException") ∈ lw_all := lw_g (lw_at lw_m1 21 rfl) rfl
theorem q704 : (Jvm.Cond.instanceMethod ({ cls := "java/lang/IndexOutOfBoundsException", name := "<init>", desc := "(Ljava/lang/String;)V" } : Jvm.MethodName)) ∈ lw_all := lw_g (lw_at lw_m3 128 rfl) rfl
theorem q705 : (Jvm.Cond.code ({ cls := "java/lang/IndexOutOfBoundsException", name := "<init>", desc := "(Ljava/lang/String;)V" } : Jvm.MethodName) prog_21_method_2_code (2 : Nat) (Option.none : Option Jvm.ClassFile.FieldType)) ∈ lw_all := lw_g (lw_at lw_m3 129 rfl) rfl
theorem q706 : (Jvm.Cond.methodLink "java/lang/IndexOutOfBoundsException" (7 : Nat) ({ cls := "java/lang/RuntimeException", name := "<init>", desc := "(Ljava/lang/String;)V" } : Jvm.MethodName)) ∈ lw_all := lw_g (lw_at lw_m3 130 rfl) rfl
theorem q715 : (Jvm.Cond.declares ({ cls := "java/lang/IndexOutOfBoundsException", name := "<init>", desc := "()V" } : Jvm.MethodName)) ∈ lw_tbl := lw_at lw_m3 139 rfl
theorem q716 : (Jvm.Cond.declares ({ cls := "java/lang/IndexOutOfBoundsException", name := "<init>", desc := "(Ljava/lang/String;)V" } : Jvm.MethodName)) ∈ lw_tbl := lw_at lw_m3 140 rfl
/-! java/lang/ArrayIndexOutOfBoundsException -/
set_option maxRecDepth 100000
def RJ7 : String := "java/lang/ArrayIndexOutOfBoundsException"
def TJ7 : u_T := fun k => match k with
  | 0 => ("java/lang/Throwable", "backtrace", "Ljava/lang/Object;", false)
  | 1 => ("java/lang/Throwable", "detailMessage", "Ljava/lang/String;", false)
  | 2 => ("java/lang/Throwable", "cause", "Ljava/lang/Throwable;", false)
  | 3 => ("java/lang/Throwable", "stackTrace", "[Ljava/lang/StackTraceElement;", false)
  | 4 => ("java/lang/Throwable", "depth", "I", false)
  | _ => ("java/lang/Throwable", "suppressedExceptions", "Ljava/util/List;", false)
def tyJ7 : Nat → FieldType := fun k => match k with
  | 0 => .object "java/lang/Object"
  | 1 => .object "java/lang/String"
  | 2 => .object "java/lang/Throwable"
  | 3 => .array (.object "java/lang/StackTraceElement")
  | 4 => .int
  | _ => .object "java/util/List"
abbrev wsJ70 : List Cond := u_ws RJ7 TJ7 6
theorem nmJ7 : ∀ a, a < 6 → ∀ b, b < 6 → a ≠ b → (TJ7 a).2.1 ≠ (TJ7 b).2.1 := by decide +kernel
theorem tyJ7_ok : ∀ k, k < 6 → parseFieldDescriptor (TJ7 k).2.2.1 = some (tyJ7 k) := by decide +kernel
abbrev cJ7_init : ByteArray := prog_18_method_2_code
def yJ7_init : MethodName := ⟨RJ7, "<init>", "(Ljava/lang/String;)V"⟩
def dkwJ7_init_0 : List UInt8 := [42, 43, 183, 0, 7, 177]
abbrev dktJ7_init_0 : List UInt8 := dkwJ7_init_0 ++ []
theorem dksJ7_init_0 : cJ7_init.data.toList.drop 0 = dktJ7_init_0 := by decide +kernel
theorem dJ7_init_0 : decode cJ7_init 0 = .ok (.aload_n 0, 1) := dk_42 (dk_at dksJ7_init_0 0 rfl rfl)
theorem dJ7_init_1 : decode cJ7_init 1 = .ok (.aload_n 1, 1) := dk_43 (dk_at dksJ7_init_0 1 rfl rfl)
theorem dJ7_init_2 : decode cJ7_init 2 = .ok (.invokespecial 7, 3) := dk_183 0 7 (dk_at dksJ7_init_0 2 rfl rfl)
theorem dJ7_init_5 : decode cJ7_init 5 = .ok (.return_, 1) := dk_177 (dk_at dksJ7_init_0 5 rfl rfl)
theorem q118 : (Jvm.Cond.initialized "java/lang/ArrayIndexOutOfBoundsException") ∈ lw_all := lw_g (lw_at lw_m1 22 rfl) rfl
theorem q162 : (Jvm.Cond.selects "java/lang/ArrayIndexOutOfBoundsException" ({ cls := "java/lang/Throwable", name := "fillInStackTrace", desc := "()Ljava/lang/Throwable;" } : Jvm.MethodName) ({ cls := "java/lang/Throwable", name := "fillInStackTrace", desc := "()Ljava/lang/Throwable;" } : Jvm.MethodName)) ∈ lw_all := lw_g (lw_at lw_m1 66 rfl) rfl
theorem q700 : (Jvm.Cond.instantiable "java/lang/ArrayIndexOutOfBoundsException" (6 : Nat)) ∈ lw_all := lw_g (lw_at lw_m3 124 rfl) rfl
theorem q701 : (Jvm.Cond.instanceMethod ({ cls := "java/lang/ArrayIndexOutOfBoundsException", name := "<init>", desc := "(Ljava/lang/String;)V" } : Jvm.MethodName)) ∈ lw_all := lw_g (lw_at lw_m3 125 rfl) rfl
theorem q702 : (Jvm.Cond.code ({ cls := "java/lang/ArrayIndexOutOfBoundsException", name := "<init>", desc := "(Ljava/lang/String;)V" } : Jvm.MethodName) prog_18_method_2_code (2 : Nat) (Option.none : Option Jvm.ClassFile.FieldType)) ∈ lw_all := lw_g (lw_at lw_m3 126 rfl) rfl
theorem q703 : (Jvm.Cond.methodLink "java/lang/ArrayIndexOutOfBoundsException" (7 : Nat) ({ cls := "java/lang/IndexOutOfBoundsException", name := "<init>", desc := "(Ljava/lang/String;)V" } : Jvm.MethodName)) ∈ lw_all := lw_g (lw_at lw_m3 127 rfl) rfl
theorem q707 : (Jvm.Cond.lays "java/lang/ArrayIndexOutOfBoundsException" "java/lang/Throwable" "backtrace" "Ljava/lang/Object;") ∈ lw_all := lw_g (lw_at lw_m3 131 rfl) rfl
theorem q708 : (Jvm.Cond.lays "java/lang/ArrayIndexOutOfBoundsException" "java/lang/Throwable" "detailMessage" "Ljava/lang/String;") ∈ lw_all := lw_g (lw_at lw_m3 132 rfl) rfl
theorem q709 : (Jvm.Cond.lays "java/lang/ArrayIndexOutOfBoundsException" "java/lang/Throwable" "cause" "Ljava/lang/Throwable;") ∈ lw_all := lw_g (lw_at lw_m3 133 rfl) rfl
theorem q710 : (Jvm.Cond.lays "java/lang/ArrayIndexOutOfBoundsException" "java/lang/Throwable" "stackTrace" "[Ljava/lang/StackTraceElement;") ∈ lw_all := lw_g (lw_at lw_m3 134 rfl) rfl
theorem q711 : (Jvm.Cond.lays "java/lang/ArrayIndexOutOfBoundsException" "java/lang/Throwable" "depth" "I") ∈ lw_all := lw_g (lw_at lw_m3 135 rfl) rfl
theorem q712 : (Jvm.Cond.lays "java/lang/ArrayIndexOutOfBoundsException" "java/lang/Throwable" "suppressedExceptions" "Ljava/util/List;") ∈ lw_all := lw_g (lw_at lw_m3 136 rfl) rfl
theorem q713 : (Jvm.Cond.superclass "java/lang/ArrayIndexOutOfBoundsException" "java/lang/IndexOutOfBoundsException") ∈ lw_all := lw_g (lw_at lw_m3 137 rfl) rfl
theorem q714 : (Jvm.Cond.castable "java/lang/ArrayIndexOutOfBoundsException" "java/lang/ArrayIndexOutOfBoundsException") ∈ lw_tbl := lw_at lw_m3 138 rfl
theorem q717 : (Jvm.Cond.selects "java/lang/ArrayIndexOutOfBoundsException" ({ cls := "java/lang/Throwable", name := "fillInStackTrace", desc := "(I)Ljava/lang/Throwable;" } : Jvm.MethodName) ({ cls := "java/lang/Throwable", name := "fillInStackTrace", desc := "(I)Ljava/lang/Throwable;" } : Jvm.MethodName)) ∈ lw_all := lw_g (lw_at lw_m3 141 rfl) rfl
theorem in_J7 : ∀ w ∈ wsJ70, w ∈ lw_all := lw_in wsJ70 [707, 708, 709, 710, 711, 712] (by decide +kernel) (by decide +kernel)
/-! java/lang/Math -/
set_option maxRecDepth 100000
def RJ8 : String := "java/lang/Math"
abbrev cJ8_min : ByteArray := prog_22_method_69_code
def yJ8_min : MethodName := ⟨RJ8, "min", "(II)I"⟩
def dkwJ8_min_0 : List UInt8 := [26, 27, 163, 0, 7, 26, 167, 0, 4, 27, 172]
abbrev dktJ8_min_0 : List UInt8 := dkwJ8_min_0 ++ []
theorem dksJ8_min_0 : cJ8_min.data.toList.drop 0 = dktJ8_min_0 := by decide +kernel
theorem dJ8_min_0 : decode cJ8_min 0 = .ok (.iload_n 0, 1) := dk_26 (dk_at dksJ8_min_0 0 rfl rfl)
theorem dJ8_min_1 : decode cJ8_min 1 = .ok (.iload_n 1, 1) := dk_27 (dk_at dksJ8_min_0 1 rfl rfl)
theorem dJ8_min_2 : decode cJ8_min 2 = .ok (.if_icmp .gt 7, 3) := dk_163 0 7 (dk_at dksJ8_min_0 2 rfl rfl)
theorem dJ8_min_5 : decode cJ8_min 5 = .ok (.iload_n 0, 1) := dk_26 (dk_at dksJ8_min_0 5 rfl rfl)
theorem dJ8_min_6 : decode cJ8_min 6 = .ok (.goto 4, 3) := dk_167 0 4 (dk_at dksJ8_min_0 6 rfl rfl)
theorem dJ8_min_9 : decode cJ8_min 9 = .ok (.iload_n 1, 1) := dk_27 (dk_at dksJ8_min_0 9 rfl rfl)
theorem dJ8_min_10 : decode cJ8_min 10 = .ok (.ireturn, 1) := dk_172 (dk_at dksJ8_min_0 10 rfl rfl)
abbrev cJ8_max : ByteArray := prog_22_method_65_code
def yJ8_max : MethodName := ⟨RJ8, "max", "(II)I"⟩
def dkwJ8_max_0 : List UInt8 := [26, 27, 161, 0, 7, 26, 167, 0, 4, 27, 172]
abbrev dktJ8_max_0 : List UInt8 := dkwJ8_max_0 ++ []
theorem dksJ8_max_0 : cJ8_max.data.toList.drop 0 = dktJ8_max_0 := by decide +kernel
theorem dJ8_max_0 : decode cJ8_max 0 = .ok (.iload_n 0, 1) := dk_26 (dk_at dksJ8_max_0 0 rfl rfl)
theorem dJ8_max_1 : decode cJ8_max 1 = .ok (.iload_n 1, 1) := dk_27 (dk_at dksJ8_max_0 1 rfl rfl)
theorem dJ8_max_2 : decode cJ8_max 2 = .ok (.if_icmp .lt 7, 3) := dk_161 0 7 (dk_at dksJ8_max_0 2 rfl rfl)
theorem dJ8_max_5 : decode cJ8_max 5 = .ok (.iload_n 0, 1) := dk_26 (dk_at dksJ8_max_0 5 rfl rfl)
theorem dJ8_max_6 : decode cJ8_max 6 = .ok (.goto 4, 3) := dk_167 0 4 (dk_at dksJ8_max_0 6 rfl rfl)
theorem dJ8_max_9 : decode cJ8_max 9 = .ok (.iload_n 1, 1) := dk_27 (dk_at dksJ8_max_0 9 rfl rfl)
theorem dJ8_max_10 : decode cJ8_max 10 = .ok (.ireturn, 1) := dk_172 (dk_at dksJ8_max_0 10 rfl rfl)
theorem q119 : (Jvm.Cond.initialized "java/lang/Math") ∈ lw_all := lw_g (lw_at lw_m1 23 rfl) rfl
theorem q814 : (Jvm.Cond.static ({ cls := "java/lang/Math", name := "min", desc := "(II)I" } : Jvm.MethodName)) ∈ lw_all := lw_g (lw_at lw_m3 238 rfl) rfl
theorem q815 : (Jvm.Cond.code ({ cls := "java/lang/Math", name := "min", desc := "(II)I" } : Jvm.MethodName) prog_22_method_69_code (2 : Nat) (Option.some Jvm.ClassFile.FieldType.int)) ∈ lw_all := lw_g (lw_at lw_m3 239 rfl) rfl
theorem q1302 : (Jvm.Cond.static ({ cls := "java/lang/Math", name := "max", desc := "(II)I" } : Jvm.MethodName)) ∈ lw_all := lw_g (lw_at lw_m6 6 rfl) rfl
theorem q1303 : (Jvm.Cond.code ({ cls := "java/lang/Math", name := "max", desc := "(II)I" } : Jvm.MethodName) prog_22_method_65_code (2 : Nat) (Option.some Jvm.ClassFile.FieldType.int)) ∈ lw_all := lw_g (lw_at lw_m6 7 rfl) rfl
/-! java/lang/Object -/
set_option maxRecDepth 100000
def RJ9 : String := "java/lang/Object"
abbrev cJ9_init : ByteArray := object_method_1_code
def yJ9_init : MethodName := ⟨RJ9, "<init>", "()V"⟩
theorem dJ9_init_0 : decode cJ9_init 0 = .ok (.return_, 1) := by decide +kernel
theorem q127 : (Jvm.Cond.instanceMethod ({ cls := "java/lang/Object", name := "<init>", desc := "()V" } : Jvm.MethodName)) ∈ lw_all := lw_g (lw_at lw_m1 31 rfl) rfl
theorem q128 : (Jvm.Cond.code ({ cls := "java/lang/Object", name := "<init>", desc := "()V" } : Jvm.MethodName) object_method_1_code (1 : Nat) (Option.none : Option Jvm.ClassFile.FieldType)) ∈ lw_all := lw_g (lw_at lw_m1 32 rfl) rfl
theorem q96 : (Jvm.Cond.initialized "CodeExchangeLaw") ∈ lw_all := lw_g (lw_at lw_m1 0 rfl) rfl
set_option maxRecDepth 100000
theorem q121 : (Jvm.Cond.classLink "CodeExchangeLaw" (7 : Nat) "CodeExchange") ∈ lw_all := lw_g (lw_at lw_m1 25 rfl) rfl
theorem q123 : (Jvm.Cond.methodLink "CodeExchangeLaw" (9 : Nat) ({ cls := "CodeExchange", name := "<init>", desc := "()V" } : Jvm.MethodName)) ∈ lw_all := lw_g (lw_at lw_m1 27 rfl) rfl
theorem q586 : (Jvm.Cond.methodLink "CodeExchangeLaw" (13 : Nat) ({ cls := "CodeExchange", name := "page", desc := "(I)I" } : Jvm.MethodName)) ∈ lw_all := lw_g (lw_at lw_m3 10 rfl) rfl
theorem q634 : (Jvm.Cond.methodLink "CodeExchangeLaw" (18 : Nat) ({ cls := "CodeExchange", name := "derive", desc := "(I)I" } : Jvm.MethodName)) ∈ lw_all := lw_g (lw_at lw_m3 58 rfl) rfl
theorem q738 : (Jvm.Cond.methodLink "CodeExchangeLaw" (22 : Nat) ({ cls := "CodeExchange", name := "entry", desc := "(IIIII)I" } : Jvm.MethodName)) ∈ lw_all := lw_g (lw_at lw_m3 162 rfl) rfl
theorem q756 : (Jvm.Cond.methodLink "CodeExchangeLaw" (27 : Nat) ({ cls := "CodeExchange", name := "shift", desc := "(IIIIZ)I" } : Jvm.MethodName)) ∈ lw_all := lw_g (lw_at lw_m3 180 rfl) rfl
theorem q765 : (Jvm.Cond.methodLink "CodeExchangeLaw" (32 : Nat) ({ cls := "CodeExchange", name := "drop", desc := "(IIII)I" } : Jvm.MethodName)) ∈ lw_all := lw_g (lw_at lw_m3 189 rfl) rfl
theorem q777 : (Jvm.Cond.methodLink "CodeExchangeLaw" (37 : Nat) ({ cls := "CodeExchange", name := "close", desc := "(I)I" } : Jvm.MethodName)) ∈ lw_all := lw_g (lw_at lw_m3 201 rfl) rfl
theorem q848 : (Jvm.Cond.methodLink "CodeExchangeLaw" (41 : Nat) ({ cls := "CodeExchange", name := "size", desc := "(II)I" } : Jvm.MethodName)) ∈ lw_all := lw_g (lw_at lw_m4 32 rfl) rfl
theorem q883 : (Jvm.Cond.methodLink "CodeExchangeLaw" (46 : Nat) ({ cls := "CodeExchange", name := "code", desc := "(II)J" } : Jvm.MethodName)) ∈ lw_all := lw_g (lw_at lw_m4 67 rfl) rfl
theorem q933 : (Jvm.Cond.methodLink "CodeExchangeLaw" (53 : Nat) ({ cls := "CodeExchange", name := "bytesIn", desc := "(JI)I" } : Jvm.MethodName)) ∈ lw_all := lw_g (lw_at lw_m4 117 rfl) rfl
theorem q938 : (Jvm.Cond.methodLink "CodeExchangeLaw" (58 : Nat) ({ cls := "CodeExchange", name := "unitsIn", desc := "(JI)I" } : Jvm.MethodName)) ∈ lw_all := lw_g (lw_at lw_m4 122 rfl) rfl
theorem q943 : (Jvm.Cond.methodLink "CodeExchangeLaw" (62 : Nat) ({ cls := "CodeExchange", name := "fill", desc := "(I)I" } : Jvm.MethodName)) ∈ lw_all := lw_g (lw_at lw_m4 127 rfl) rfl
theorem q950 : (Jvm.Cond.methodLink "CodeExchangeLaw" (66 : Nat) ({ cls := "CodeExchange", name := "decode", desc := "(II)I" } : Jvm.MethodName)) ∈ lw_all := lw_g (lw_at lw_m4 134 rfl) rfl
theorem q1184 : (Jvm.Cond.methodLink "CodeExchangeLaw" (70 : Nat) ({ cls := "CodeExchange", name := "encode", desc := "(II)I" } : Jvm.MethodName)) ∈ lw_all := lw_g (lw_at lw_m5 128 rfl) rfl
theorem q1188 : (Jvm.Cond.methodLink "CodeExchangeLaw" (74 : Nat) ({ cls := "CodeExchange", name := "transcode", desc := "(IIII)I" } : Jvm.MethodName)) ∈ lw_all := lw_g (lw_at lw_m5 132 rfl) rfl
theorem q1192 : (Jvm.Cond.methodLink "CodeExchangeLaw" (78 : Nat) ({ cls := "CodeExchange", name := "result", desc := "(I)I" } : Jvm.MethodName)) ∈ lw_all := lw_g (lw_at lw_m5 136 rfl) rfl
theorem q1196 : (Jvm.Cond.methodLink "CodeExchangeLaw" (82 : Nat) ({ cls := "CodeExchange", name := "sign", desc := "(II)I" } : Jvm.MethodName)) ∈ lw_all := lw_g (lw_at lw_m5 140 rfl) rfl
theorem q1200 : (Jvm.Cond.methodLink "CodeExchangeLaw" (86 : Nat) ({ cls := "CodeExchange", name := "fallback", desc := "(I)I" } : Jvm.MethodName)) ∈ lw_all := lw_g (lw_at lw_m5 144 rfl) rfl
theorem q1229 : (Jvm.Cond.methodLink "CodeExchangeLaw" (90 : Nat) ({ cls := "CodeExchange", name := "begin", desc := "(IIZI)I" } : Jvm.MethodName)) ∈ lw_all := lw_g (lw_at lw_m5 173 rfl) rfl
theorem q1233 : (Jvm.Cond.methodLink "CodeExchangeLaw" (95 : Nat) ({ cls := "CodeExchange", name := "feed", desc := "(II)I" } : Jvm.MethodName)) ∈ lw_all := lw_g (lw_at lw_m5 177 rfl) rfl
theorem q1243 : (Jvm.Cond.methodLink "CodeExchangeLaw" (99 : Nat) ({ cls := "CodeExchange", name := "end", desc := "(I)I" } : Jvm.MethodName)) ∈ lw_all := lw_g (lw_at lw_m5 187 rfl) rfl
theorem q1247 : (Jvm.Cond.methodLink "CodeExchangeLaw" (103 : Nat) ({ cls := "CodeExchange", name := "take", desc := "(I)I" } : Jvm.MethodName)) ∈ lw_all := lw_g (lw_at lw_m5 191 rfl) rfl
theorem q1280 : (Jvm.Cond.methodLink "CodeExchangeLaw" (107 : Nat) ({ cls := "CodeExchange", name := "machine", desc := "(II)I" } : Jvm.MethodName)) ∈ lw_all := lw_g (lw_at lw_m5 224 rfl) rfl
theorem q1284 : (Jvm.Cond.methodLink "CodeExchangeLaw" (111 : Nat) ({ cls := "CodeExchange", name := "coverage", desc := "(III)I" } : Jvm.MethodName)) ∈ lw_all := lw_g (lw_at lw_m5 228 rfl) rfl
theorem q1304 : (Jvm.Cond.methodLink "CodeExchangeLaw" (116 : Nat) ({ cls := "CodeExchange", name := "differ", desc := "(III)I" } : Jvm.MethodName)) ∈ lw_all := lw_g (lw_at lw_m6 8 rfl) rfl
theorem q1315 : (Jvm.Cond.methodLink "CodeExchangeLaw" (120 : Nat) ({ cls := "CodeExchange", name := "misread", desc := "(II)I" } : Jvm.MethodName)) ∈ lw_all := lw_g (lw_at lw_m6 19 rfl) rfl
theorem q1320 : (Jvm.Cond.methodLink "CodeExchangeLaw" (124 : Nat) ({ cls := "CodeExchange", name := "faults", desc := "(I)I" } : Jvm.MethodName)) ∈ lw_all := lw_g (lw_at lw_m6 24 rfl) rfl
theorem q1328 : (Jvm.Cond.methodLink "CodeExchangeLaw" (128 : Nat) ({ cls := "CodeExchange", name := "detect", desc := "()I" } : Jvm.MethodName)) ∈ lw_all := lw_g (lw_at lw_m6 32 rfl) rfl
theorem q1332 : (Jvm.Cond.methodLink "CodeExchangeLaw" (133 : Nat) ({ cls := "CodeExchange", name := "lengths", desc := "(II)I" } : Jvm.MethodName)) ∈ lw_all := lw_g (lw_at lw_m6 36 rfl) rfl
theorem q1356 : (Jvm.Cond.methodLink "CodeExchangeLaw" (137 : Nat) ({ cls := "CodeExchange", name := "send", desc := "(I)I" } : Jvm.MethodName)) ∈ lw_all := lw_g (lw_at lw_m6 60 rfl) rfl
theorem q1365 : (Jvm.Cond.methodLink "CodeExchangeLaw" (141 : Nat) ({ cls := "CodeExchange", name := "receive", desc := "()I" } : Jvm.MethodName)) ∈ lw_all := lw_g (lw_at lw_m6 69 rfl) rfl
theorem q1381 : (Jvm.Cond.methodLink "CodeExchangeLaw" (145 : Nat) ({ cls := "CodeExchange", name := "told", desc := "(I)I" } : Jvm.MethodName)) ∈ lw_all := lw_g (lw_at lw_m6 85 rfl) rfl
theorem q1385 : (Jvm.Cond.classLink "CodeExchangeLaw" (10 : Nat) "CodeExchangeModel") ∈ lw_all := lw_g (lw_at lw_m6 89 rfl) rfl
theorem q1387 : (Jvm.Cond.methodLink "CodeExchangeLaw" (12 : Nat) ({ cls := "CodeExchangeModel", name := "<init>", desc := "()V" } : Jvm.MethodName)) ∈ lw_all := lw_g (lw_at lw_m6 91 rfl) rfl
theorem q1600 : (Jvm.Cond.methodLink "CodeExchangeLaw" (17 : Nat) ({ cls := "CodeExchangeModel", name := "page", desc := "(I)I" } : Jvm.MethodName)) ∈ lw_all := lw_g (lw_at lw_m7 64 rfl) rfl
theorem q1611 : (Jvm.Cond.methodLink "CodeExchangeLaw" (21 : Nat) ({ cls := "CodeExchangeModel", name := "derive", desc := "(I)I" } : Jvm.MethodName)) ∈ lw_all := lw_g (lw_at lw_m7 75 rfl) rfl
theorem q1627 : (Jvm.Cond.methodLink "CodeExchangeLaw" (26 : Nat) ({ cls := "CodeExchangeModel", name := "entry", desc := "(IIIII)I" } : Jvm.MethodName)) ∈ lw_all := lw_g (lw_at lw_m7 91 rfl) rfl
theorem q1648 : (Jvm.Cond.methodLink "CodeExchangeLaw" (31 : Nat) ({ cls := "CodeExchangeModel", name := "shift", desc := "(IIIIZ)I" } : Jvm.MethodName)) ∈ lw_all := lw_g (lw_at lw_m7 112 rfl) rfl
theorem q1656 : (Jvm.Cond.methodLink "CodeExchangeLaw" (36 : Nat) ({ cls := "CodeExchangeModel", name := "drop", desc := "(IIII)I" } : Jvm.MethodName)) ∈ lw_all := lw_g (lw_at lw_m7 120 rfl) rfl
theorem q1660 : (Jvm.Cond.methodLink "CodeExchangeLaw" (40 : Nat) ({ cls := "CodeExchangeModel", name := "close", desc := "(I)I" } : Jvm.MethodName)) ∈ lw_all := lw_g (lw_at lw_m7 124 rfl) rfl
theorem q1700 : (Jvm.Cond.methodLink "CodeExchangeLaw" (45 : Nat) ({ cls := "CodeExchangeModel", name := "size", desc := "(II)I" } : Jvm.MethodName)) ∈ lw_all := lw_g (lw_at lw_m7 164 rfl) rfl
theorem q1704 : (Jvm.Cond.methodLink "CodeExchangeLaw" (50 : Nat) ({ cls := "CodeExchangeModel", name := "code", desc := "(II)J" } : Jvm.MethodName)) ∈ lw_all := lw_g (lw_at lw_m7 168 rfl) rfl
theorem q1732 : (Jvm.Cond.methodLink "CodeExchangeLaw" (57 : Nat) ({ cls := "CodeExchangeModel", name := "bytesIn", desc := "(JI)I" } : Jvm.MethodName)) ∈ lw_all := lw_g (lw_at lw_m7 196 rfl) rfl
theorem q1736 : (Jvm.Cond.methodLink "CodeExchangeLaw" (61 : Nat) ({ cls := "CodeExchangeModel", name := "unitsIn", desc := "(JI)I" } : Jvm.MethodName)) ∈ lw_all := lw_g (lw_at lw_m7 200 rfl) rfl
theorem q1741 : (Jvm.Cond.methodLink "CodeExchangeLaw" (65 : Nat) ({ cls := "CodeExchangeModel", name := "fill", desc := "(I)I" } : Jvm.MethodName)) ∈ lw_all := lw_g (lw_at lw_m7 205 rfl) rfl
theorem q1745 : (Jvm.Cond.methodLink "CodeExchangeLaw" (69 : Nat) ({ cls := "CodeExchangeModel", name := "decode", desc := "(II)I" } : Jvm.MethodName)) ∈ lw_all := lw_g (lw_at lw_m7 209 rfl) rfl
theorem q1788 : (Jvm.Cond.methodLink "CodeExchangeLaw" (73 : Nat) ({ cls := "CodeExchangeModel", name := "encode", desc := "(II)I" } : Jvm.MethodName)) ∈ lw_all := lw_g (lw_at lw_m8 12 rfl) rfl
theorem q1837 : (Jvm.Cond.methodLink "CodeExchangeLaw" (77 : Nat) ({ cls := "CodeExchangeModel", name := "transcode", desc := "(IIII)I" } : Jvm.MethodName)) ∈ lw_all := lw_g (lw_at lw_m8 61 rfl) rfl
theorem q1841 : (Jvm.Cond.methodLink "CodeExchangeLaw" (81 : Nat) ({ cls := "CodeExchangeModel", name := "result", desc := "(I)I" } : Jvm.MethodName)) ∈ lw_all := lw_g (lw_at lw_m8 65 rfl) rfl
theorem q1845 : (Jvm.Cond.methodLink "CodeExchangeLaw" (85 : Nat) ({ cls := "CodeExchangeModel", name := "sign", desc := "(II)I" } : Jvm.MethodName)) ∈ lw_all := lw_g (lw_at lw_m8 69 rfl) rfl
theorem q1849 : (Jvm.Cond.methodLink "CodeExchangeLaw" (89 : Nat) ({ cls := "CodeExchangeModel", name := "fallback", desc := "(I)I" } : Jvm.MethodName)) ∈ lw_all := lw_g (lw_at lw_m8 73 rfl) rfl
theorem q1861 : (Jvm.Cond.methodLink "CodeExchangeLaw" (94 : Nat) ({ cls := "CodeExchangeModel", name := "begin", desc := "(IIZI)I" } : Jvm.MethodName)) ∈ lw_all := lw_g (lw_at lw_m8 85 rfl) rfl
theorem q1865 : (Jvm.Cond.methodLink "CodeExchangeLaw" (98 : Nat) ({ cls := "CodeExchangeModel", name := "feed", desc := "(II)I" } : Jvm.MethodName)) ∈ lw_all := lw_g (lw_at lw_m8 89 rfl) rfl
theorem q1886 : (Jvm.Cond.methodLink "CodeExchangeLaw" (102 : Nat) ({ cls := "CodeExchangeModel", name := "end", desc := "(I)I" } : Jvm.MethodName)) ∈ lw_all := lw_g (lw_at lw_m8 110 rfl) rfl
theorem q1890 : (Jvm.Cond.methodLink "CodeExchangeLaw" (106 : Nat) ({ cls := "CodeExchangeModel", name := "take", desc := "(I)I" } : Jvm.MethodName)) ∈ lw_all := lw_g (lw_at lw_m8 114 rfl) rfl
theorem q1894 : (Jvm.Cond.methodLink "CodeExchangeLaw" (110 : Nat) ({ cls := "CodeExchangeModel", name := "machine", desc := "(II)I" } : Jvm.MethodName)) ∈ lw_all := lw_g (lw_at lw_m8 118 rfl) rfl
theorem q1898 : (Jvm.Cond.methodLink "CodeExchangeLaw" (115 : Nat) ({ cls := "CodeExchangeModel", name := "coverage", desc := "(III)I" } : Jvm.MethodName)) ∈ lw_all := lw_g (lw_at lw_m8 122 rfl) rfl
theorem q1902 : (Jvm.Cond.methodLink "CodeExchangeLaw" (119 : Nat) ({ cls := "CodeExchangeModel", name := "differ", desc := "(III)I" } : Jvm.MethodName)) ∈ lw_all := lw_g (lw_at lw_m8 126 rfl) rfl
theorem q1910 : (Jvm.Cond.methodLink "CodeExchangeLaw" (123 : Nat) ({ cls := "CodeExchangeModel", name := "misread", desc := "(II)I" } : Jvm.MethodName)) ∈ lw_all := lw_g (lw_at lw_m8 134 rfl) rfl
theorem q1914 : (Jvm.Cond.methodLink "CodeExchangeLaw" (127 : Nat) ({ cls := "CodeExchangeModel", name := "faults", desc := "(I)I" } : Jvm.MethodName)) ∈ lw_all := lw_g (lw_at lw_m8 138 rfl) rfl
theorem q1918 : (Jvm.Cond.methodLink "CodeExchangeLaw" (132 : Nat) ({ cls := "CodeExchangeModel", name := "detect", desc := "()I" } : Jvm.MethodName)) ∈ lw_all := lw_g (lw_at lw_m8 142 rfl) rfl
theorem q1922 : (Jvm.Cond.methodLink "CodeExchangeLaw" (136 : Nat) ({ cls := "CodeExchangeModel", name := "lengths", desc := "(II)I" } : Jvm.MethodName)) ∈ lw_all := lw_g (lw_at lw_m8 146 rfl) rfl
theorem q1927 : (Jvm.Cond.methodLink "CodeExchangeLaw" (140 : Nat) ({ cls := "CodeExchangeModel", name := "send", desc := "(I)I" } : Jvm.MethodName)) ∈ lw_all := lw_g (lw_at lw_m8 151 rfl) rfl
theorem q1936 : (Jvm.Cond.methodLink "CodeExchangeLaw" (144 : Nat) ({ cls := "CodeExchangeModel", name := "receive", desc := "()I" } : Jvm.MethodName)) ∈ lw_all := lw_g (lw_at lw_m8 160 rfl) rfl
theorem q1956 : (Jvm.Cond.methodLink "CodeExchangeLaw" (148 : Nat) ({ cls := "CodeExchangeModel", name := "told", desc := "(I)I" } : Jvm.MethodName)) ∈ lw_all := lw_g (lw_at lw_m8 180 rfl) rfl
theorem q1960 : (Jvm.Cond.constantLong "CodeExchangeLaw" (51 : Nat) (4294967295 : Int64)) ∈ lw_all := lw_g (lw_at lw_m8 184 rfl) rfl
theorem q1076 : (Jvm.Cond.interfaceMethod "CodeExchange$Sink" "CodeExchange$Sink" "put" "(I)V") ∈ lw_tbl := lw_at lw_m5 20 rfl
set_option maxRecDepth 100000
theorem q1077 : (Jvm.Cond.declares ({ cls := "CodeExchange$Sink", name := "put", desc := "(I)V" } : Jvm.MethodName)) ∈ lw_tbl := lw_at lw_m5 21 rfl
theorem q120 : (Jvm.Cond.initialized "java/lang/System") ∈ lw_all := lw_g (lw_at lw_m1 24 rfl) rfl
set_option maxRecDepth 100000
theorem q948 : (Jvm.Cond.static ({ cls := "java/lang/System", name := "arraycopy", desc := "(Ljava/lang/Object;ILjava/lang/Object;II)V" } : Jvm.MethodName)) ∈ lw_all := lw_g (lw_at lw_m4 132 rfl) rfl
theorem q949 : (Jvm.Cond.native ({ cls := "java/lang/System", name := "arraycopy", desc := "(Ljava/lang/Object;ILjava/lang/Object;II)V" } : Jvm.MethodName)) ∈ lw_all := lw_g (lw_at lw_m4 133 rfl) rfl
theorem q213 : (Jvm.Cond.arrayOver (Jvm.ClassFile.FieldType.object "CodeExchange$Slot")) ∈ lw_tbl := lw_at lw_m1 117 rfl
set_option maxRecDepth 100000
theorem q224 : (Jvm.Cond.arrayOver (Jvm.ClassFile.FieldType.array Jvm.ClassFile.FieldType.int)) ∈ lw_tbl := lw_at lw_m1 128 rfl
theorem q330 : (Jvm.Cond.arrayClass Jvm.ClassFile.FieldType.int) ∈ lw_all := lw_g (lw_at lw_m1 234 rfl) rfl
theorem q331 : (Jvm.Cond.arrayClass Jvm.ClassFile.FieldType.boolean) ∈ lw_all := lw_g (lw_at lw_m1 235 rfl) rfl
theorem q332 : (Jvm.Cond.arrayClass Jvm.ClassFile.FieldType.long) ∈ lw_all := lw_g (lw_at lw_m1 236 rfl) rfl
theorem q335 : (Jvm.Cond.arrayOver (Jvm.ClassFile.FieldType.object "CodeExchange$Reader")) ∈ lw_tbl := lw_at lw_m1 239 rfl
theorem q337 : (Jvm.Cond.arrayOver (Jvm.ClassFile.FieldType.object "CodeExchange$Writer")) ∈ lw_tbl := lw_at lw_m2 1 rfl
theorem q665 : (Jvm.Cond.arrayClass Jvm.ClassFile.FieldType.byte) ∈ lw_all := lw_g (lw_at lw_m3 89 rfl) rfl
/-! CodeExchange$Refusal -/
set_option maxRecDepth 100000
def RX1 : String := "CodeExchange$Refusal"
def TX1 : u_T := fun k => match k with
  | 0 => ("java/lang/Throwable", "cause", "Ljava/lang/Throwable;", false)
  | 1 => ("java/lang/Throwable", "stackTrace", "[Ljava/lang/StackTraceElement;", false)
  | 2 => ("java/lang/Throwable", "suppressedExceptions", "Ljava/util/List;", false)
  | 3 => ("java/lang/Throwable", "detailMessage", "Ljava/lang/String;", false)
  | 4 => ("java/lang/Throwable", "backtrace", "Ljava/lang/Object;", false)
  | 5 => ("java/lang/Throwable", "depth", "I", false)
  | _ => ("CodeExchange$Refusal", "finding", "I", false)
def tyX1 : Nat → FieldType := fun k => match k with
  | 0 => .object "java/lang/Throwable"
  | 1 => .array (.object "java/lang/StackTraceElement")
  | 2 => .object "java/util/List"
  | 3 => .object "java/lang/String"
  | 4 => .object "java/lang/Object"
  | 5 => .int
  | _ => .int
abbrev wsX10 : List Cond := u_ws RX1 TX1 7
theorem nmX1 : ∀ a, a < 7 → ∀ b, b < 7 → a ≠ b → (TX1 a).2.1 ≠ (TX1 b).2.1 := by decide +kernel
theorem tyX1_ok : ∀ k, k < 7 → parseFieldDescriptor (TX1 k).2.2.1 = some (tyX1 k) := by decide +kernel
abbrev cX1_init : ByteArray := prog_7_method_1_code
def yX1_init : MethodName := ⟨RX1, "<init>", "()V"⟩
def dkwX1_init_0 : List UInt8 := [42, 1, 1, 3, 3, 183, 0, 1, 177]
abbrev dktX1_init_0 : List UInt8 := dkwX1_init_0 ++ []
theorem dksX1_init_0 : cX1_init.data.toList.drop 0 = dktX1_init_0 := by decide +kernel
theorem dX1_init_0 : decode cX1_init 0 = .ok (.aload_n 0, 1) := dk_42 (dk_at dksX1_init_0 0 rfl rfl)
theorem dX1_init_1 : decode cX1_init 1 = .ok (.aconst_null, 1) := dk_1 (dk_at dksX1_init_0 1 rfl rfl)
theorem dX1_init_2 : decode cX1_init 2 = .ok (.aconst_null, 1) := dk_1 (dk_at dksX1_init_0 2 rfl rfl)
theorem dX1_init_3 : decode cX1_init 3 = .ok (.iconst 0, 1) := dk_3 (dk_at dksX1_init_0 3 rfl rfl)
theorem dX1_init_4 : decode cX1_init 4 = .ok (.iconst 0, 1) := dk_3 (dk_at dksX1_init_0 4 rfl rfl)
theorem dX1_init_5 : decode cX1_init 5 = .ok (.invokespecial 1, 3) := dk_183 0 1 (dk_at dksX1_init_0 5 rfl rfl)
theorem dX1_init_8 : decode cX1_init 8 = .ok (.return_, 1) := dk_177 (dk_at dksX1_init_0 8 rfl rfl)
theorem q101 : (Jvm.Cond.initialized "CodeExchange$Refusal") ∈ lw_all := lw_g (lw_at lw_m1 5 rfl) rfl
theorem q130 : (Jvm.Cond.instantiable "CodeExchange$Refusal" (7 : Nat)) ∈ lw_all := lw_g (lw_at lw_m1 34 rfl) rfl
theorem q131 : (Jvm.Cond.castable "CodeExchange$Refusal" "CodeExchange$Refusal") ∈ lw_tbl := lw_at lw_m1 35 rfl
theorem q138 : (Jvm.Cond.selects "CodeExchange$Refusal" ({ cls := "java/lang/Throwable", name := "fillInStackTrace", desc := "(I)Ljava/lang/Throwable;" } : Jvm.MethodName) ({ cls := "java/lang/Throwable", name := "fillInStackTrace", desc := "(I)Ljava/lang/Throwable;" } : Jvm.MethodName)) ∈ lw_all := lw_g (lw_at lw_m1 42 rfl) rfl
theorem q139 : (Jvm.Cond.selects "CodeExchange$Refusal" ({ cls := "java/lang/Throwable", name := "fillInStackTrace", desc := "()Ljava/lang/Throwable;" } : Jvm.MethodName) ({ cls := "java/lang/Throwable", name := "fillInStackTrace", desc := "()Ljava/lang/Throwable;" } : Jvm.MethodName)) ∈ lw_all := lw_g (lw_at lw_m1 43 rfl) rfl
theorem q140 : (Jvm.Cond.lays "CodeExchange$Refusal" "java/lang/Throwable" "cause" "Ljava/lang/Throwable;") ∈ lw_all := lw_g (lw_at lw_m1 44 rfl) rfl
theorem q142 : (Jvm.Cond.lays "CodeExchange$Refusal" "java/lang/Throwable" "stackTrace" "[Ljava/lang/StackTraceElement;") ∈ lw_all := lw_g (lw_at lw_m1 46 rfl) rfl
theorem q144 : (Jvm.Cond.lays "CodeExchange$Refusal" "java/lang/Throwable" "suppressedExceptions" "Ljava/util/List;") ∈ lw_all := lw_g (lw_at lw_m1 48 rfl) rfl
theorem q146 : (Jvm.Cond.lays "CodeExchange$Refusal" "java/lang/Throwable" "detailMessage" "Ljava/lang/String;") ∈ lw_all := lw_g (lw_at lw_m1 50 rfl) rfl
theorem q148 : (Jvm.Cond.lays "CodeExchange$Refusal" "java/lang/Throwable" "backtrace" "Ljava/lang/Object;") ∈ lw_all := lw_g (lw_at lw_m1 52 rfl) rfl
theorem q185 : (Jvm.Cond.instanceMethod ({ cls := "CodeExchange$Refusal", name := "<init>", desc := "()V" } : Jvm.MethodName)) ∈ lw_all := lw_g (lw_at lw_m1 89 rfl) rfl
theorem q186 : (Jvm.Cond.code ({ cls := "CodeExchange$Refusal", name := "<init>", desc := "()V" } : Jvm.MethodName) prog_7_method_1_code (1 : Nat) (Option.none : Option Jvm.ClassFile.FieldType)) ∈ lw_all := lw_g (lw_at lw_m1 90 rfl) rfl
theorem q187 : (Jvm.Cond.methodLink "CodeExchange$Refusal" (1 : Nat) ({ cls := "java/lang/RuntimeException", name := "<init>", desc := "(Ljava/lang/String;Ljava/lang/Throwable;ZZ)V" } : Jvm.MethodName)) ∈ lw_all := lw_g (lw_at lw_m1 91 rfl) rfl
theorem q202 : (Jvm.Cond.lays "CodeExchange$Refusal" "CodeExchange$Refusal" "finding" "I") ∈ lw_all := lw_g (lw_at lw_m1 106 rfl) rfl
theorem q203 : (Jvm.Cond.soleField "CodeExchange$Refusal" "finding") ∈ lw_all := lw_g (lw_at lw_m1 107 rfl) rfl
theorem q208 : (Jvm.Cond.lays "CodeExchange$Refusal" "java/lang/Throwable" "depth" "I") ∈ lw_all := lw_g (lw_at lw_m1 112 rfl) rfl
theorem q211 : (Jvm.Cond.superclass "CodeExchange$Refusal" "java/lang/RuntimeException") ∈ lw_all := lw_g (lw_at lw_m1 115 rfl) rfl
theorem in_X1 : ∀ w ∈ wsX10, w ∈ lw_all := lw_in wsX10 [140, 142, 144, 146, 148, 208, 202] (by decide +kernel) (by decide +kernel)
/-! CodeExchange$Page -/
set_option maxRecDepth 100000
def RX2 : String := "CodeExchange$Page"
abbrev cX2_init : ByteArray := prog_5_method_1_code
def yX2_init : MethodName := ⟨RX2, "<init>", "()V"⟩
theorem dX2_init_0 : decode cX2_init 0 = .ok (.aload_n 0, 1) := by decide +kernel
theorem dX2_init_1 : decode cX2_init 1 = .ok (.invokespecial 1, 3) := by decide +kernel
theorem dX2_init_4 : decode cX2_init 4 = .ok (.return_, 1) := by decide +kernel
abbrev cX2_way : ByteArray := prog_5_method_6_code
def yX2_way : MethodName := ⟨RX2, "way", "(II)J"⟩
theorem dX2_way_0 : decode cX2_way 0 = .ok (.lconst 0, 1) := by decide +kernel
theorem dX2_way_1 : decode cX2_way 1 = .ok (.lreturn, 1) := by decide +kernel
abbrev cX2_behind : ByteArray := prog_5_method_7_code
def yX2_behind : MethodName := ⟨RX2, "behind", "(II)I"⟩
theorem dX2_behind_0 : decode cX2_behind 0 = .ok (.iload_n 1, 1) := by decide +kernel
theorem dX2_behind_1 : decode cX2_behind 1 = .ok (.ireturn, 1) := by decide +kernel
abbrev cX2_end : ByteArray := prog_5_method_8_code
def yX2_end : MethodName := ⟨RX2, "end", "(I)J"⟩
theorem dX2_end_0 : decode cX2_end 0 = .ok (.lconst 0, 1) := by decide +kernel
theorem dX2_end_1 : decode cX2_end 1 = .ok (.lreturn, 1) := by decide +kernel
abbrev cX2_coverage : ByteArray := prog_5_method_10_code
def yX2_coverage : MethodName := ⟨RX2, "coverage", "(II)I"⟩
def dkwX2_coverage_1 : List UInt8 := [184, 0, 15, 100, 172]
abbrev dktX2_coverage_1 : List UInt8 := dkwX2_coverage_1 ++ []
def dkwX2_coverage_0 : List UInt8 := [28, 18, 7, 184, 0, 8, 27, 18, 14, 184, 0, 15, 100, 4, 96, 62, 28, 27, 100, 4, 96, 29, 3]
abbrev dktX2_coverage_0 : List UInt8 := dkwX2_coverage_0 ++ dktX2_coverage_1
theorem dksX2_coverage_0 : cX2_coverage.data.toList.drop 0 = dktX2_coverage_0 := by decide +kernel
theorem dksX2_coverage_1 : cX2_coverage.data.toList.drop 23 = dktX2_coverage_1 := dk_seg dksX2_coverage_0 23 rfl rfl
theorem dX2_coverage_0 : decode cX2_coverage 0 = .ok (.iload_n 2, 1) := dk_28 (dk_at dksX2_coverage_0 0 rfl rfl)
theorem dX2_coverage_1 : decode cX2_coverage 1 = .ok (.ldc 7, 2) := dk_18 7 (dk_at dksX2_coverage_0 1 rfl rfl)
theorem dX2_coverage_3 : decode cX2_coverage 3 = .ok (.invokestatic 8, 3) := dk_184 0 8 (dk_at dksX2_coverage_0 3 rfl rfl)
theorem dX2_coverage_6 : decode cX2_coverage 6 = .ok (.iload_n 1, 1) := dk_27 (dk_at dksX2_coverage_0 6 rfl rfl)
theorem dX2_coverage_7 : decode cX2_coverage 7 = .ok (.ldc 14, 2) := dk_18 14 (dk_at dksX2_coverage_0 7 rfl rfl)
theorem dX2_coverage_9 : decode cX2_coverage 9 = .ok (.invokestatic 15, 3) := dk_184 0 15 (dk_at dksX2_coverage_0 9 rfl rfl)
theorem dX2_coverage_12 : decode cX2_coverage 12 = .ok (.isub, 1) := dk_100 (dk_at dksX2_coverage_0 12 rfl rfl)
theorem dX2_coverage_13 : decode cX2_coverage 13 = .ok (.iconst 1, 1) := dk_4 (dk_at dksX2_coverage_0 13 rfl rfl)
theorem dX2_coverage_14 : decode cX2_coverage 14 = .ok (.iadd, 1) := dk_96 (dk_at dksX2_coverage_0 14 rfl rfl)
theorem dX2_coverage_15 : decode cX2_coverage 15 = .ok (.istore_n 3, 1) := dk_62 (dk_at dksX2_coverage_0 15 rfl rfl)
theorem dX2_coverage_16 : decode cX2_coverage 16 = .ok (.iload_n 2, 1) := dk_28 (dk_at dksX2_coverage_0 16 rfl rfl)
theorem dX2_coverage_17 : decode cX2_coverage 17 = .ok (.iload_n 1, 1) := dk_27 (dk_at dksX2_coverage_0 17 rfl rfl)
theorem dX2_coverage_18 : decode cX2_coverage 18 = .ok (.isub, 1) := dk_100 (dk_at dksX2_coverage_0 18 rfl rfl)
theorem dX2_coverage_19 : decode cX2_coverage 19 = .ok (.iconst 1, 1) := dk_4 (dk_at dksX2_coverage_0 19 rfl rfl)
theorem dX2_coverage_20 : decode cX2_coverage 20 = .ok (.iadd, 1) := dk_96 (dk_at dksX2_coverage_0 20 rfl rfl)
theorem dX2_coverage_21 : decode cX2_coverage 21 = .ok (.iload_n 3, 1) := dk_29 (dk_at dksX2_coverage_0 21 rfl rfl)
theorem dX2_coverage_22 : decode cX2_coverage 22 = .ok (.iconst 0, 1) := dk_3 (dk_at dksX2_coverage_0 22 rfl rfl)
theorem dX2_coverage_23 : decode cX2_coverage 23 = .ok (.invokestatic 15, 3) := dk_184 0 15 (dk_at dksX2_coverage_1 0 rfl rfl)
theorem dX2_coverage_26 : decode cX2_coverage 26 = .ok (.isub, 1) := dk_100 (dk_at dksX2_coverage_1 3 rfl rfl)
theorem dX2_coverage_27 : decode cX2_coverage 27 = .ok (.ireturn, 1) := dk_172 (dk_at dksX2_coverage_1 4 rfl rfl)
abbrev cX2_isReached : ByteArray := prog_5_method_9_code
def yX2_isReached : MethodName := ⟨RX2, "isReached", "(I)Z"⟩
def dkwX2_isReached_0 : List UInt8 := [27, 154, 0, 7, 4, 167, 0, 4, 3, 172]
abbrev dktX2_isReached_0 : List UInt8 := dkwX2_isReached_0 ++ []
theorem dksX2_isReached_0 : cX2_isReached.data.toList.drop 0 = dktX2_isReached_0 := by decide +kernel
theorem dX2_isReached_0 : decode cX2_isReached 0 = .ok (.iload_n 1, 1) := dk_27 (dk_at dksX2_isReached_0 0 rfl rfl)
theorem dX2_isReached_1 : decode cX2_isReached 1 = .ok (.ifCond .ne 7, 3) := dk_154 0 7 (dk_at dksX2_isReached_0 1 rfl rfl)
theorem dX2_isReached_4 : decode cX2_isReached 4 = .ok (.iconst 1, 1) := dk_4 (dk_at dksX2_isReached_0 4 rfl rfl)
theorem dX2_isReached_5 : decode cX2_isReached 5 = .ok (.goto 4, 3) := dk_167 0 4 (dk_at dksX2_isReached_0 5 rfl rfl)
theorem dX2_isReached_8 : decode cX2_isReached 8 = .ok (.iconst 0, 1) := dk_3 (dk_at dksX2_isReached_0 8 rfl rfl)
theorem dX2_isReached_9 : decode cX2_isReached 9 = .ok (.ireturn, 1) := dk_172 (dk_at dksX2_isReached_0 9 rfl rfl)
theorem q102 : (Jvm.Cond.initialized "CodeExchange$Page") ∈ lw_all := lw_g (lw_at lw_m1 6 rfl) rfl
theorem q220 : (Jvm.Cond.instanceMethod ({ cls := "CodeExchange$Page", name := "<init>", desc := "()V" } : Jvm.MethodName)) ∈ lw_all := lw_g (lw_at lw_m1 124 rfl) rfl
theorem q221 : (Jvm.Cond.code ({ cls := "CodeExchange$Page", name := "<init>", desc := "()V" } : Jvm.MethodName) prog_5_method_1_code (1 : Nat) (Option.none : Option Jvm.ClassFile.FieldType)) ∈ lw_all := lw_g (lw_at lw_m1 125 rfl) rfl
theorem q222 : (Jvm.Cond.methodLink "CodeExchange$Page" (1 : Nat) ({ cls := "java/lang/Object", name := "<init>", desc := "()V" } : Jvm.MethodName)) ∈ lw_all := lw_g (lw_at lw_m1 126 rfl) rfl
theorem q324 : (Jvm.Cond.soleField "CodeExchange$Page" "hitPoint") ∈ lw_all := lw_g (lw_at lw_m1 228 rfl) rfl
theorem q326 : (Jvm.Cond.soleField "CodeExchange$Page" "hitGoal") ∈ lw_all := lw_g (lw_at lw_m1 230 rfl) rfl
theorem q328 : (Jvm.Cond.soleField "CodeExchange$Page" "hitSticky") ∈ lw_all := lw_g (lw_at lw_m1 232 rfl) rfl
theorem q858 : (Jvm.Cond.declares ({ cls := "CodeExchange$Page", name := "kind", desc := "()I" } : Jvm.MethodName)) ∈ lw_tbl := lw_at lw_m4 42 rfl
theorem q859 : (Jvm.Cond.sameMethod "CodeExchange$Page" "CodeExchange$Page" "kind" "()I") ∈ lw_all := lw_g (lw_at lw_m4 43 rfl) rfl
theorem q873 : (Jvm.Cond.declares ({ cls := "CodeExchange$Page", name := "isClosed", desc := "()Z" } : Jvm.MethodName)) ∈ lw_tbl := lw_at lw_m4 57 rfl
theorem q874 : (Jvm.Cond.sameMethod "CodeExchange$Page" "CodeExchange$Page" "isClosed" "()Z") ∈ lw_all := lw_g (lw_at lw_m4 58 rfl) rfl
theorem q892 : (Jvm.Cond.declares ({ cls := "CodeExchange$Page", name := "code", desc := "(I)J" } : Jvm.MethodName)) ∈ lw_tbl := lw_at lw_m4 76 rfl
theorem q893 : (Jvm.Cond.sameMethod "CodeExchange$Page" "CodeExchange$Page" "code" "(I)J") ∈ lw_all := lw_g (lw_at lw_m4 77 rfl) rfl
theorem q985 : (Jvm.Cond.declares ({ cls := "CodeExchange$Page", name := "match", desc := "(II[II)I" } : Jvm.MethodName)) ∈ lw_tbl := lw_at lw_m4 169 rfl
theorem q986 : (Jvm.Cond.sameMethod "CodeExchange$Page" "CodeExchange$Page" "match" "(II[II)I") ∈ lw_all := lw_g (lw_at lw_m4 170 rfl) rfl
theorem q1114 : (Jvm.Cond.instanceMethod ({ cls := "CodeExchange$Page", name := "way", desc := "(II)J" } : Jvm.MethodName)) ∈ lw_all := lw_g (lw_at lw_m5 58 rfl) rfl
theorem q1115 : (Jvm.Cond.sameMethod "CodeExchange$Page" "CodeExchange$Page" "way" "(II)J") ∈ lw_all := lw_g (lw_at lw_m5 59 rfl) rfl
theorem q1122 : (Jvm.Cond.code ({ cls := "CodeExchange$Page", name := "way", desc := "(II)J" } : Jvm.MethodName) prog_5_method_6_code (3 : Nat) (Option.some Jvm.ClassFile.FieldType.long)) ∈ lw_all := lw_g (lw_at lw_m5 66 rfl) rfl
theorem q1131 : (Jvm.Cond.instanceMethod ({ cls := "CodeExchange$Page", name := "behind", desc := "(II)I" } : Jvm.MethodName)) ∈ lw_all := lw_g (lw_at lw_m5 75 rfl) rfl
theorem q1132 : (Jvm.Cond.sameMethod "CodeExchange$Page" "CodeExchange$Page" "behind" "(II)I") ∈ lw_all := lw_g (lw_at lw_m5 76 rfl) rfl
theorem q1139 : (Jvm.Cond.code ({ cls := "CodeExchange$Page", name := "behind", desc := "(II)I" } : Jvm.MethodName) prog_5_method_7_code (3 : Nat) (Option.some Jvm.ClassFile.FieldType.int)) ∈ lw_all := lw_g (lw_at lw_m5 83 rfl) rfl
theorem q1171 : (Jvm.Cond.instanceMethod ({ cls := "CodeExchange$Page", name := "end", desc := "(I)J" } : Jvm.MethodName)) ∈ lw_all := lw_g (lw_at lw_m5 115 rfl) rfl
theorem q1172 : (Jvm.Cond.sameMethod "CodeExchange$Page" "CodeExchange$Page" "end" "(I)J") ∈ lw_all := lw_g (lw_at lw_m5 116 rfl) rfl
theorem q1179 : (Jvm.Cond.code ({ cls := "CodeExchange$Page", name := "end", desc := "(I)J" } : Jvm.MethodName) prog_5_method_8_code (2 : Nat) (Option.some Jvm.ClassFile.FieldType.long)) ∈ lw_all := lw_g (lw_at lw_m5 123 rfl) rfl
theorem q1289 : (Jvm.Cond.instanceMethod ({ cls := "CodeExchange$Page", name := "coverage", desc := "(II)I" } : Jvm.MethodName)) ∈ lw_all := lw_g (lw_at lw_m5 233 rfl) rfl
theorem q1290 : (Jvm.Cond.sameMethod "CodeExchange$Page" "CodeExchange$Page" "coverage" "(II)I") ∈ lw_all := lw_g (lw_at lw_m5 234 rfl) rfl
theorem q1297 : (Jvm.Cond.code ({ cls := "CodeExchange$Page", name := "coverage", desc := "(II)I" } : Jvm.MethodName) prog_5_method_10_code (4 : Nat) (Option.some Jvm.ClassFile.FieldType.int)) ∈ lw_all := lw_g (lw_at lw_m6 1 rfl) rfl
theorem q1298 : (Jvm.Cond.constant "CodeExchange$Page" (7 : Nat) (57343 : Int32)) ∈ lw_all := lw_g (lw_at lw_m6 2 rfl) rfl
theorem q1299 : (Jvm.Cond.methodLink "CodeExchange$Page" (8 : Nat) ({ cls := "java/lang/Math", name := "min", desc := "(II)I" } : Jvm.MethodName)) ∈ lw_all := lw_g (lw_at lw_m6 3 rfl) rfl
theorem q1300 : (Jvm.Cond.constant "CodeExchange$Page" (14 : Nat) (55296 : Int32)) ∈ lw_all := lw_g (lw_at lw_m6 4 rfl) rfl
theorem q1301 : (Jvm.Cond.methodLink "CodeExchange$Page" (15 : Nat) ({ cls := "java/lang/Math", name := "max", desc := "(II)I" } : Jvm.MethodName)) ∈ lw_all := lw_g (lw_at lw_m6 5 rfl) rfl
theorem q1337 : (Jvm.Cond.instanceMethod ({ cls := "CodeExchange$Page", name := "isReached", desc := "(I)Z" } : Jvm.MethodName)) ∈ lw_all := lw_g (lw_at lw_m6 41 rfl) rfl
theorem q1338 : (Jvm.Cond.sameMethod "CodeExchange$Page" "CodeExchange$Page" "isReached" "(I)Z") ∈ lw_all := lw_g (lw_at lw_m6 42 rfl) rfl
theorem q1343 : (Jvm.Cond.code ({ cls := "CodeExchange$Page", name := "isReached", desc := "(I)Z" } : Jvm.MethodName) prog_5_method_9_code (2 : Nat) (Option.some Jvm.ClassFile.FieldType.boolean)) ∈ lw_all := lw_g (lw_at lw_m6 47 rfl) rfl
/-! CodeExchange$Machine -/
set_option maxRecDepth 100000
def RX4 : String := "CodeExchange$Machine"
abbrev cX4_init : ByteArray := prog_4_method_1_code
def yX4_init : MethodName := ⟨RX4, "<init>", "(LCodeExchange;)V"⟩
def dkwX4_init_0 : List UInt8 := [42, 43, 181, 0, 3, 42, 183, 0, 9, 42, 17, 2, 188, 188, 10, 181, 0, 15, 177]
abbrev dktX4_init_0 : List UInt8 := dkwX4_init_0 ++ []
theorem dksX4_init_0 : cX4_init.data.toList.drop 0 = dktX4_init_0 := by decide +kernel
theorem dX4_init_0 : decode cX4_init 0 = .ok (.aload_n 0, 1) := dk_42 (dk_at dksX4_init_0 0 rfl rfl)
theorem dX4_init_1 : decode cX4_init 1 = .ok (.aload_n 1, 1) := dk_43 (dk_at dksX4_init_0 1 rfl rfl)
theorem dX4_init_2 : decode cX4_init 2 = .ok (.putfield 3, 3) := dk_181 0 3 (dk_at dksX4_init_0 2 rfl rfl)
theorem dX4_init_5 : decode cX4_init 5 = .ok (.aload_n 0, 1) := dk_42 (dk_at dksX4_init_0 5 rfl rfl)
theorem dX4_init_6 : decode cX4_init 6 = .ok (.invokespecial 9, 3) := dk_183 0 9 (dk_at dksX4_init_0 6 rfl rfl)
theorem dX4_init_9 : decode cX4_init 9 = .ok (.aload_n 0, 1) := dk_42 (dk_at dksX4_init_0 9 rfl rfl)
theorem dX4_init_10 : decode cX4_init 10 = .ok (.sipush 700, 3) := dk_17 2 188 (dk_at dksX4_init_0 10 rfl rfl)
theorem dX4_init_13 : decode cX4_init 13 = .ok (.newarray .int, 2) := dk_188_10 (dk_at dksX4_init_0 13 rfl rfl)
theorem dX4_init_15 : decode cX4_init 15 = .ok (.putfield 15, 3) := dk_181 0 15 (dk_at dksX4_init_0 15 rfl rfl)
theorem dX4_init_18 : decode cX4_init 18 = .ok (.return_, 1) := dk_177 (dk_at dksX4_init_0 18 rfl rfl)
abbrev cX4_begin : ByteArray := prog_4_method_2_code
def yX4_begin : MethodName := ⟨RX4, "begin", "(LCodeExchange$Page;ILCodeExchange$Sink;)V"⟩
def dkwX4_begin_2 : List UInt8 := [3, 181, 0, 49, 177]
abbrev dktX4_begin_2 : List UInt8 := dkwX4_begin_2 ++ []
def dkwX4_begin_1 : List UInt8 := [181, 0, 34, 42, 3, 181, 0, 37, 42, 7, 181, 0, 40, 42, 3, 181, 0, 43, 42, 3, 181, 0, 46, 42]
abbrev dktX4_begin_1 : List UInt8 := dkwX4_begin_1 ++ dktX4_begin_2
def dkwX4_begin_0 : List UInt8 := [42, 43, 181, 0, 19, 42, 28, 181, 0, 23, 42, 45, 181, 0, 27, 42, 3, 181, 0, 31, 42, 3]
abbrev dktX4_begin_0 : List UInt8 := dkwX4_begin_0 ++ dktX4_begin_1
theorem dksX4_begin_0 : cX4_begin.data.toList.drop 0 = dktX4_begin_0 := by decide +kernel
theorem dksX4_begin_1 : cX4_begin.data.toList.drop 22 = dktX4_begin_1 := dk_seg dksX4_begin_0 22 rfl rfl
theorem dksX4_begin_2 : cX4_begin.data.toList.drop 46 = dktX4_begin_2 := dk_seg dksX4_begin_1 24 rfl rfl
theorem dX4_begin_0 : decode cX4_begin 0 = .ok (.aload_n 0, 1) := dk_42 (dk_at dksX4_begin_0 0 rfl rfl)
theorem dX4_begin_1 : decode cX4_begin 1 = .ok (.aload_n 1, 1) := dk_43 (dk_at dksX4_begin_0 1 rfl rfl)
theorem dX4_begin_2 : decode cX4_begin 2 = .ok (.putfield 19, 3) := dk_181 0 19 (dk_at dksX4_begin_0 2 rfl rfl)
theorem dX4_begin_5 : decode cX4_begin 5 = .ok (.aload_n 0, 1) := dk_42 (dk_at dksX4_begin_0 5 rfl rfl)
theorem dX4_begin_6 : decode cX4_begin 6 = .ok (.iload_n 2, 1) := dk_28 (dk_at dksX4_begin_0 6 rfl rfl)
theorem dX4_begin_7 : decode cX4_begin 7 = .ok (.putfield 23, 3) := dk_181 0 23 (dk_at dksX4_begin_0 7 rfl rfl)
theorem dX4_begin_10 : decode cX4_begin 10 = .ok (.aload_n 0, 1) := dk_42 (dk_at dksX4_begin_0 10 rfl rfl)
theorem dX4_begin_11 : decode cX4_begin 11 = .ok (.aload_n 3, 1) := dk_45 (dk_at dksX4_begin_0 11 rfl rfl)
theorem dX4_begin_12 : decode cX4_begin 12 = .ok (.putfield 27, 3) := dk_181 0 27 (dk_at dksX4_begin_0 12 rfl rfl)
theorem dX4_begin_15 : decode cX4_begin 15 = .ok (.aload_n 0, 1) := dk_42 (dk_at dksX4_begin_0 15 rfl rfl)
theorem dX4_begin_16 : decode cX4_begin 16 = .ok (.iconst 0, 1) := dk_3 (dk_at dksX4_begin_0 16 rfl rfl)
theorem dX4_begin_17 : decode cX4_begin 17 = .ok (.putfield 31, 3) := dk_181 0 31 (dk_at dksX4_begin_0 17 rfl rfl)
theorem dX4_begin_20 : decode cX4_begin 20 = .ok (.aload_n 0, 1) := dk_42 (dk_at dksX4_begin_0 20 rfl rfl)
theorem dX4_begin_21 : decode cX4_begin 21 = .ok (.iconst 0, 1) := dk_3 (dk_at dksX4_begin_0 21 rfl rfl)
theorem dX4_begin_22 : decode cX4_begin 22 = .ok (.putfield 34, 3) := dk_181 0 34 (dk_at dksX4_begin_1 0 rfl rfl)
theorem dX4_begin_25 : decode cX4_begin 25 = .ok (.aload_n 0, 1) := dk_42 (dk_at dksX4_begin_1 3 rfl rfl)
theorem dX4_begin_26 : decode cX4_begin 26 = .ok (.iconst 0, 1) := dk_3 (dk_at dksX4_begin_1 4 rfl rfl)
theorem dX4_begin_27 : decode cX4_begin 27 = .ok (.putfield 37, 3) := dk_181 0 37 (dk_at dksX4_begin_1 5 rfl rfl)
theorem dX4_begin_30 : decode cX4_begin 30 = .ok (.aload_n 0, 1) := dk_42 (dk_at dksX4_begin_1 8 rfl rfl)
theorem dX4_begin_31 : decode cX4_begin 31 = .ok (.iconst 4, 1) := dk_7 (dk_at dksX4_begin_1 9 rfl rfl)
theorem dX4_begin_32 : decode cX4_begin 32 = .ok (.putfield 40, 3) := dk_181 0 40 (dk_at dksX4_begin_1 10 rfl rfl)
theorem dX4_begin_35 : decode cX4_begin 35 = .ok (.aload_n 0, 1) := dk_42 (dk_at dksX4_begin_1 13 rfl rfl)
theorem dX4_begin_36 : decode cX4_begin 36 = .ok (.iconst 0, 1) := dk_3 (dk_at dksX4_begin_1 14 rfl rfl)
theorem dX4_begin_37 : decode cX4_begin 37 = .ok (.putfield 43, 3) := dk_181 0 43 (dk_at dksX4_begin_1 15 rfl rfl)
theorem dX4_begin_40 : decode cX4_begin 40 = .ok (.aload_n 0, 1) := dk_42 (dk_at dksX4_begin_1 18 rfl rfl)
theorem dX4_begin_41 : decode cX4_begin 41 = .ok (.iconst 0, 1) := dk_3 (dk_at dksX4_begin_1 19 rfl rfl)
theorem dX4_begin_42 : decode cX4_begin 42 = .ok (.putfield 46, 3) := dk_181 0 46 (dk_at dksX4_begin_1 20 rfl rfl)
theorem dX4_begin_45 : decode cX4_begin 45 = .ok (.aload_n 0, 1) := dk_42 (dk_at dksX4_begin_1 23 rfl rfl)
theorem dX4_begin_46 : decode cX4_begin 46 = .ok (.iconst 0, 1) := dk_3 (dk_at dksX4_begin_2 0 rfl rfl)
theorem dX4_begin_47 : decode cX4_begin 47 = .ok (.putfield 49, 3) := dk_181 0 49 (dk_at dksX4_begin_2 1 rfl rfl)
theorem dX4_begin_50 : decode cX4_begin 50 = .ok (.return_, 1) := dk_177 (dk_at dksX4_begin_2 4 rfl rfl)
abbrev cX4_feed : ByteArray := prog_4_method_9_code
def yX4_feed : MethodName := ⟨RX4, "feed", "(I)V"⟩
def dkwX4_feed_0 : List UInt8 := [42, 89, 180, 0, 46, 4, 96, 181, 0, 46, 42, 27, 182, 0, 65, 177]
abbrev dktX4_feed_0 : List UInt8 := dkwX4_feed_0 ++ []
theorem dksX4_feed_0 : cX4_feed.data.toList.drop 0 = dktX4_feed_0 := by decide +kernel
theorem dX4_feed_0 : decode cX4_feed 0 = .ok (.aload_n 0, 1) := dk_42 (dk_at dksX4_feed_0 0 rfl rfl)
theorem dX4_feed_1 : decode cX4_feed 1 = .ok (.dup, 1) := dk_89 (dk_at dksX4_feed_0 1 rfl rfl)
theorem dX4_feed_2 : decode cX4_feed 2 = .ok (.getfield 46, 3) := dk_180 0 46 (dk_at dksX4_feed_0 2 rfl rfl)
theorem dX4_feed_5 : decode cX4_feed 5 = .ok (.iconst 1, 1) := dk_4 (dk_at dksX4_feed_0 5 rfl rfl)
theorem dX4_feed_6 : decode cX4_feed 6 = .ok (.iadd, 1) := dk_96 (dk_at dksX4_feed_0 6 rfl rfl)
theorem dX4_feed_7 : decode cX4_feed 7 = .ok (.putfield 46, 3) := dk_181 0 46 (dk_at dksX4_feed_0 7 rfl rfl)
theorem dX4_feed_10 : decode cX4_feed 10 = .ok (.aload_n 0, 1) := dk_42 (dk_at dksX4_feed_0 10 rfl rfl)
theorem dX4_feed_11 : decode cX4_feed 11 = .ok (.iload_n 1, 1) := dk_27 (dk_at dksX4_feed_0 11 rfl rfl)
theorem dX4_feed_12 : decode cX4_feed 12 = .ok (.invokevirtual 65, 3) := dk_182 0 65 (dk_at dksX4_feed_0 12 rfl rfl)
theorem dX4_feed_15 : decode cX4_feed 15 = .ok (.return_, 1) := dk_177 (dk_at dksX4_feed_0 15 rfl rfl)
abbrev cX4_ends : ByteArray := prog_4_method_6_code
def yX4_ends : MethodName := ⟨RX4, "ends", "(II)LCodeExchange$Refusal;"⟩
def dkwX4_ends_1 : List UInt8 := [7, 181, 0, 40, 42, 180, 0, 3, 27, 182, 0, 61, 176]
abbrev dktX4_ends_1 : List UInt8 := dkwX4_ends_1 ++ []
def dkwX4_ends_0 : List UInt8 := [42, 180, 0, 3, 42, 180, 0, 46, 28, 100, 181, 0, 58, 42, 5, 181, 0, 49, 42, 3, 181, 0, 43, 42]
abbrev dktX4_ends_0 : List UInt8 := dkwX4_ends_0 ++ dktX4_ends_1
theorem dksX4_ends_0 : cX4_ends.data.toList.drop 0 = dktX4_ends_0 := by decide +kernel
theorem dksX4_ends_1 : cX4_ends.data.toList.drop 24 = dktX4_ends_1 := dk_seg dksX4_ends_0 24 rfl rfl
theorem dX4_ends_0 : decode cX4_ends 0 = .ok (.aload_n 0, 1) := dk_42 (dk_at dksX4_ends_0 0 rfl rfl)
theorem dX4_ends_1 : decode cX4_ends 1 = .ok (.getfield 3, 3) := dk_180 0 3 (dk_at dksX4_ends_0 1 rfl rfl)
theorem dX4_ends_4 : decode cX4_ends 4 = .ok (.aload_n 0, 1) := dk_42 (dk_at dksX4_ends_0 4 rfl rfl)
theorem dX4_ends_5 : decode cX4_ends 5 = .ok (.getfield 46, 3) := dk_180 0 46 (dk_at dksX4_ends_0 5 rfl rfl)
theorem dX4_ends_8 : decode cX4_ends 8 = .ok (.iload_n 2, 1) := dk_28 (dk_at dksX4_ends_0 8 rfl rfl)
theorem dX4_ends_9 : decode cX4_ends 9 = .ok (.isub, 1) := dk_100 (dk_at dksX4_ends_0 9 rfl rfl)
theorem dX4_ends_10 : decode cX4_ends 10 = .ok (.putfield 58, 3) := dk_181 0 58 (dk_at dksX4_ends_0 10 rfl rfl)
theorem dX4_ends_13 : decode cX4_ends 13 = .ok (.aload_n 0, 1) := dk_42 (dk_at dksX4_ends_0 13 rfl rfl)
theorem dX4_ends_14 : decode cX4_ends 14 = .ok (.iconst 2, 1) := dk_5 (dk_at dksX4_ends_0 14 rfl rfl)
theorem dX4_ends_15 : decode cX4_ends 15 = .ok (.putfield 49, 3) := dk_181 0 49 (dk_at dksX4_ends_0 15 rfl rfl)
theorem dX4_ends_18 : decode cX4_ends 18 = .ok (.aload_n 0, 1) := dk_42 (dk_at dksX4_ends_0 18 rfl rfl)
theorem dX4_ends_19 : decode cX4_ends 19 = .ok (.iconst 0, 1) := dk_3 (dk_at dksX4_ends_0 19 rfl rfl)
theorem dX4_ends_20 : decode cX4_ends 20 = .ok (.putfield 43, 3) := dk_181 0 43 (dk_at dksX4_ends_0 20 rfl rfl)
theorem dX4_ends_23 : decode cX4_ends 23 = .ok (.aload_n 0, 1) := dk_42 (dk_at dksX4_ends_0 23 rfl rfl)
theorem dX4_ends_24 : decode cX4_ends 24 = .ok (.iconst 4, 1) := dk_7 (dk_at dksX4_ends_1 0 rfl rfl)
theorem dX4_ends_25 : decode cX4_ends 25 = .ok (.putfield 40, 3) := dk_181 0 40 (dk_at dksX4_ends_1 1 rfl rfl)
theorem dX4_ends_28 : decode cX4_ends 28 = .ok (.aload_n 0, 1) := dk_42 (dk_at dksX4_ends_1 4 rfl rfl)
theorem dX4_ends_29 : decode cX4_ends 29 = .ok (.getfield 3, 3) := dk_180 0 3 (dk_at dksX4_ends_1 5 rfl rfl)
theorem dX4_ends_32 : decode cX4_ends 32 = .ok (.iload_n 1, 1) := dk_27 (dk_at dksX4_ends_1 8 rfl rfl)
theorem dX4_ends_33 : decode cX4_ends 33 = .ok (.invokevirtual 61, 3) := dk_182 0 61 (dk_at dksX4_ends_1 9 rfl rfl)
theorem dX4_ends_36 : decode cX4_ends 36 = .ok (.areturn, 1) := dk_176 (dk_at dksX4_ends_1 12 rfl rfl)
abbrev cX4_put : ByteArray := prog_4_method_4_code
def yX4_put : MethodName := ⟨RX4, "put", "(I)V"⟩
def dkwX4_put_2 : List UInt8 := [42, 180, 0, 34, 96, 27, 79, 42, 89, 180, 0, 34, 4, 96, 181, 0, 34, 177]
abbrev dktX4_put_2 : List UInt8 := dkwX4_put_2 ++ []
def dkwX4_put_1 : List UInt8 := [180, 0, 15, 3, 42, 180, 0, 34, 184, 0, 52, 42, 3, 181, 0, 31, 42, 180, 0, 15, 42, 180, 0, 31]
abbrev dktX4_put_1 : List UInt8 := dkwX4_put_1 ++ dktX4_put_2
def dkwX4_put_0 : List UInt8 := [42, 180, 0, 31, 42, 180, 0, 34, 96, 17, 2, 188, 160, 0, 28, 42, 180, 0, 15, 42, 180, 0, 31, 42]
abbrev dktX4_put_0 : List UInt8 := dkwX4_put_0 ++ dktX4_put_1
theorem dksX4_put_0 : cX4_put.data.toList.drop 0 = dktX4_put_0 := by decide +kernel
theorem dksX4_put_1 : cX4_put.data.toList.drop 24 = dktX4_put_1 := dk_seg dksX4_put_0 24 rfl rfl
theorem dksX4_put_2 : cX4_put.data.toList.drop 48 = dktX4_put_2 := dk_seg dksX4_put_1 24 rfl rfl
theorem dX4_put_0 : decode cX4_put 0 = .ok (.aload_n 0, 1) := dk_42 (dk_at dksX4_put_0 0 rfl rfl)
theorem dX4_put_1 : decode cX4_put 1 = .ok (.getfield 31, 3) := dk_180 0 31 (dk_at dksX4_put_0 1 rfl rfl)
theorem dX4_put_4 : decode cX4_put 4 = .ok (.aload_n 0, 1) := dk_42 (dk_at dksX4_put_0 4 rfl rfl)
theorem dX4_put_5 : decode cX4_put 5 = .ok (.getfield 34, 3) := dk_180 0 34 (dk_at dksX4_put_0 5 rfl rfl)
theorem dX4_put_8 : decode cX4_put 8 = .ok (.iadd, 1) := dk_96 (dk_at dksX4_put_0 8 rfl rfl)
theorem dX4_put_9 : decode cX4_put 9 = .ok (.sipush 700, 3) := dk_17 2 188 (dk_at dksX4_put_0 9 rfl rfl)
theorem dX4_put_12 : decode cX4_put 12 = .ok (.if_icmp .ne 28, 3) := dk_160 0 28 (dk_at dksX4_put_0 12 rfl rfl)
theorem dX4_put_15 : decode cX4_put 15 = .ok (.aload_n 0, 1) := dk_42 (dk_at dksX4_put_0 15 rfl rfl)
theorem dX4_put_16 : decode cX4_put 16 = .ok (.getfield 15, 3) := dk_180 0 15 (dk_at dksX4_put_0 16 rfl rfl)
theorem dX4_put_19 : decode cX4_put 19 = .ok (.aload_n 0, 1) := dk_42 (dk_at dksX4_put_0 19 rfl rfl)
theorem dX4_put_20 : decode cX4_put 20 = .ok (.getfield 31, 3) := dk_180 0 31 (dk_at dksX4_put_0 20 rfl rfl)
theorem dX4_put_23 : decode cX4_put 23 = .ok (.aload_n 0, 1) := dk_42 (dk_at dksX4_put_0 23 rfl rfl)
theorem dX4_put_24 : decode cX4_put 24 = .ok (.getfield 15, 3) := dk_180 0 15 (dk_at dksX4_put_1 0 rfl rfl)
theorem dX4_put_27 : decode cX4_put 27 = .ok (.iconst 0, 1) := dk_3 (dk_at dksX4_put_1 3 rfl rfl)
theorem dX4_put_28 : decode cX4_put 28 = .ok (.aload_n 0, 1) := dk_42 (dk_at dksX4_put_1 4 rfl rfl)
theorem dX4_put_29 : decode cX4_put 29 = .ok (.getfield 34, 3) := dk_180 0 34 (dk_at dksX4_put_1 5 rfl rfl)
theorem dX4_put_32 : decode cX4_put 32 = .ok (.invokestatic 52, 3) := dk_184 0 52 (dk_at dksX4_put_1 8 rfl rfl)
theorem dX4_put_35 : decode cX4_put 35 = .ok (.aload_n 0, 1) := dk_42 (dk_at dksX4_put_1 11 rfl rfl)
theorem dX4_put_36 : decode cX4_put 36 = .ok (.iconst 0, 1) := dk_3 (dk_at dksX4_put_1 12 rfl rfl)
theorem dX4_put_37 : decode cX4_put 37 = .ok (.putfield 31, 3) := dk_181 0 31 (dk_at dksX4_put_1 13 rfl rfl)
theorem dX4_put_40 : decode cX4_put 40 = .ok (.aload_n 0, 1) := dk_42 (dk_at dksX4_put_1 16 rfl rfl)
theorem dX4_put_41 : decode cX4_put 41 = .ok (.getfield 15, 3) := dk_180 0 15 (dk_at dksX4_put_1 17 rfl rfl)
theorem dX4_put_44 : decode cX4_put 44 = .ok (.aload_n 0, 1) := dk_42 (dk_at dksX4_put_1 20 rfl rfl)
theorem dX4_put_45 : decode cX4_put 45 = .ok (.getfield 31, 3) := dk_180 0 31 (dk_at dksX4_put_1 21 rfl rfl)
theorem dX4_put_48 : decode cX4_put 48 = .ok (.aload_n 0, 1) := dk_42 (dk_at dksX4_put_2 0 rfl rfl)
theorem dX4_put_49 : decode cX4_put 49 = .ok (.getfield 34, 3) := dk_180 0 34 (dk_at dksX4_put_2 1 rfl rfl)
theorem dX4_put_52 : decode cX4_put 52 = .ok (.iadd, 1) := dk_96 (dk_at dksX4_put_2 4 rfl rfl)
theorem dX4_put_53 : decode cX4_put 53 = .ok (.iload_n 1, 1) := dk_27 (dk_at dksX4_put_2 5 rfl rfl)
theorem dX4_put_54 : decode cX4_put 54 = .ok (.iastore, 1) := dk_79 (dk_at dksX4_put_2 6 rfl rfl)
theorem dX4_put_55 : decode cX4_put 55 = .ok (.aload_n 0, 1) := dk_42 (dk_at dksX4_put_2 7 rfl rfl)
theorem dX4_put_56 : decode cX4_put 56 = .ok (.dup, 1) := dk_89 (dk_at dksX4_put_2 8 rfl rfl)
theorem dX4_put_57 : decode cX4_put 57 = .ok (.getfield 34, 3) := dk_180 0 34 (dk_at dksX4_put_2 9 rfl rfl)
theorem dX4_put_60 : decode cX4_put 60 = .ok (.iconst 1, 1) := dk_4 (dk_at dksX4_put_2 12 rfl rfl)
theorem dX4_put_61 : decode cX4_put 61 = .ok (.iadd, 1) := dk_96 (dk_at dksX4_put_2 13 rfl rfl)
theorem dX4_put_62 : decode cX4_put 62 = .ok (.putfield 34, 3) := dk_181 0 34 (dk_at dksX4_put_2 14 rfl rfl)
theorem dX4_put_65 : decode cX4_put 65 = .ok (.return_, 1) := dk_177 (dk_at dksX4_put_2 17 rfl rfl)
abbrev cX4_end : ByteArray := prog_4_method_10_code
def yX4_end : MethodName := ⟨RX4, "end", "()V"⟩
def dkwX4_end_0 : List UInt8 := [42, 182, 0, 69, 42, 4, 181, 0, 49, 42, 3, 181, 0, 43, 42, 7, 181, 0, 40, 177]
abbrev dktX4_end_0 : List UInt8 := dkwX4_end_0 ++ []
theorem dksX4_end_0 : cX4_end.data.toList.drop 0 = dktX4_end_0 := by decide +kernel
theorem dX4_end_0 : decode cX4_end 0 = .ok (.aload_n 0, 1) := dk_42 (dk_at dksX4_end_0 0 rfl rfl)
theorem dX4_end_1 : decode cX4_end 1 = .ok (.invokevirtual 69, 3) := dk_182 0 69 (dk_at dksX4_end_0 1 rfl rfl)
theorem dX4_end_4 : decode cX4_end 4 = .ok (.aload_n 0, 1) := dk_42 (dk_at dksX4_end_0 4 rfl rfl)
theorem dX4_end_5 : decode cX4_end 5 = .ok (.iconst 1, 1) := dk_4 (dk_at dksX4_end_0 5 rfl rfl)
theorem dX4_end_6 : decode cX4_end 6 = .ok (.putfield 49, 3) := dk_181 0 49 (dk_at dksX4_end_0 6 rfl rfl)
theorem dX4_end_9 : decode cX4_end 9 = .ok (.aload_n 0, 1) := dk_42 (dk_at dksX4_end_0 9 rfl rfl)
theorem dX4_end_10 : decode cX4_end 10 = .ok (.iconst 0, 1) := dk_3 (dk_at dksX4_end_0 10 rfl rfl)
theorem dX4_end_11 : decode cX4_end 11 = .ok (.putfield 43, 3) := dk_181 0 43 (dk_at dksX4_end_0 11 rfl rfl)
theorem dX4_end_14 : decode cX4_end 14 = .ok (.aload_n 0, 1) := dk_42 (dk_at dksX4_end_0 14 rfl rfl)
theorem dX4_end_15 : decode cX4_end 15 = .ok (.iconst 4, 1) := dk_7 (dk_at dksX4_end_0 15 rfl rfl)
theorem dX4_end_16 : decode cX4_end 16 = .ok (.putfield 40, 3) := dk_181 0 40 (dk_at dksX4_end_0 16 rfl rfl)
theorem dX4_end_19 : decode cX4_end 19 = .ok (.return_, 1) := dk_177 (dk_at dksX4_end_0 19 rfl rfl)
abbrev cX4_waits : ByteArray := prog_4_method_3_code
def yX4_waits : MethodName := ⟨RX4, "waits", "()I"⟩
theorem dX4_waits_0 : decode cX4_waits 0 = .ok (.aload_n 0, 1) := by decide +kernel
theorem dX4_waits_1 : decode cX4_waits 1 = .ok (.getfield 34, 3) := by decide +kernel
theorem dX4_waits_4 : decode cX4_waits 4 = .ok (.ireturn, 1) := by decide +kernel
abbrev cX4_take : ByteArray := prog_4_method_5_code
def yX4_take : MethodName := ⟨RX4, "take", "()I"⟩
def dkwX4_take_1 : List UInt8 := [42, 180, 0, 31, 4, 100, 46, 172]
abbrev dktX4_take_1 : List UInt8 := dkwX4_take_1 ++ []
def dkwX4_take_0 : List UInt8 := [42, 89, 180, 0, 34, 4, 100, 181, 0, 34, 42, 89, 180, 0, 31, 4, 96, 181, 0, 31, 42, 180, 0, 15]
abbrev dktX4_take_0 : List UInt8 := dkwX4_take_0 ++ dktX4_take_1
theorem dksX4_take_0 : cX4_take.data.toList.drop 0 = dktX4_take_0 := by decide +kernel
theorem dksX4_take_1 : cX4_take.data.toList.drop 24 = dktX4_take_1 := dk_seg dksX4_take_0 24 rfl rfl
theorem dX4_take_0 : decode cX4_take 0 = .ok (.aload_n 0, 1) := dk_42 (dk_at dksX4_take_0 0 rfl rfl)
theorem dX4_take_1 : decode cX4_take 1 = .ok (.dup, 1) := dk_89 (dk_at dksX4_take_0 1 rfl rfl)
theorem dX4_take_2 : decode cX4_take 2 = .ok (.getfield 34, 3) := dk_180 0 34 (dk_at dksX4_take_0 2 rfl rfl)
theorem dX4_take_5 : decode cX4_take 5 = .ok (.iconst 1, 1) := dk_4 (dk_at dksX4_take_0 5 rfl rfl)
theorem dX4_take_6 : decode cX4_take 6 = .ok (.isub, 1) := dk_100 (dk_at dksX4_take_0 6 rfl rfl)
theorem dX4_take_7 : decode cX4_take 7 = .ok (.putfield 34, 3) := dk_181 0 34 (dk_at dksX4_take_0 7 rfl rfl)
theorem dX4_take_10 : decode cX4_take 10 = .ok (.aload_n 0, 1) := dk_42 (dk_at dksX4_take_0 10 rfl rfl)
theorem dX4_take_11 : decode cX4_take 11 = .ok (.dup, 1) := dk_89 (dk_at dksX4_take_0 11 rfl rfl)
theorem dX4_take_12 : decode cX4_take 12 = .ok (.getfield 31, 3) := dk_180 0 31 (dk_at dksX4_take_0 12 rfl rfl)
theorem dX4_take_15 : decode cX4_take 15 = .ok (.iconst 1, 1) := dk_4 (dk_at dksX4_take_0 15 rfl rfl)
theorem dX4_take_16 : decode cX4_take 16 = .ok (.iadd, 1) := dk_96 (dk_at dksX4_take_0 16 rfl rfl)
theorem dX4_take_17 : decode cX4_take 17 = .ok (.putfield 31, 3) := dk_181 0 31 (dk_at dksX4_take_0 17 rfl rfl)
theorem dX4_take_20 : decode cX4_take 20 = .ok (.aload_n 0, 1) := dk_42 (dk_at dksX4_take_0 20 rfl rfl)
theorem dX4_take_21 : decode cX4_take 21 = .ok (.getfield 15, 3) := dk_180 0 15 (dk_at dksX4_take_0 21 rfl rfl)
theorem dX4_take_24 : decode cX4_take 24 = .ok (.aload_n 0, 1) := dk_42 (dk_at dksX4_take_1 0 rfl rfl)
theorem dX4_take_25 : decode cX4_take 25 = .ok (.getfield 31, 3) := dk_180 0 31 (dk_at dksX4_take_1 1 rfl rfl)
theorem dX4_take_28 : decode cX4_take 28 = .ok (.iconst 1, 1) := dk_4 (dk_at dksX4_take_1 4 rfl rfl)
theorem dX4_take_29 : decode cX4_take 29 = .ok (.isub, 1) := dk_100 (dk_at dksX4_take_1 5 rfl rfl)
theorem dX4_take_30 : decode cX4_take 30 = .ok (.iaload, 1) := dk_46 (dk_at dksX4_take_1 6 rfl rfl)
theorem dX4_take_31 : decode cX4_take 31 = .ok (.ireturn, 1) := dk_172 (dk_at dksX4_take_1 7 rfl rfl)
theorem q104 : (Jvm.Cond.initialized "CodeExchange$Machine") ∈ lw_all := lw_g (lw_at lw_m1 8 rfl) rfl
theorem q343 : (Jvm.Cond.instanceMethod ({ cls := "CodeExchange$Machine", name := "<init>", desc := "(LCodeExchange;)V" } : Jvm.MethodName)) ∈ lw_all := lw_g (lw_at lw_m2 7 rfl) rfl
theorem q344 : (Jvm.Cond.code ({ cls := "CodeExchange$Machine", name := "<init>", desc := "(LCodeExchange;)V" } : Jvm.MethodName) prog_4_method_1_code (2 : Nat) (Option.none : Option Jvm.ClassFile.FieldType)) ∈ lw_all := lw_g (lw_at lw_m2 8 rfl) rfl
theorem q345 : (Jvm.Cond.methodLink "CodeExchange$Machine" (9 : Nat) ({ cls := "java/lang/Object", name := "<init>", desc := "()V" } : Jvm.MethodName)) ∈ lw_all := lw_g (lw_at lw_m2 9 rfl) rfl
theorem q350 : (Jvm.Cond.fieldLink "CodeExchange$Machine" (15 : Nat) "CodeExchange$Machine" "queue" "[I") ∈ lw_all := lw_g (lw_at lw_m2 14 rfl) rfl
theorem q351 : (Jvm.Cond.fieldLink "CodeExchange$Machine" (27 : Nat) "CodeExchange$Machine" "sink" "LCodeExchange$Sink;") ∈ lw_all := lw_g (lw_at lw_m2 15 rfl) rfl
theorem q356 : (Jvm.Cond.fieldLink "CodeExchange$Machine" (19 : Nat) "CodeExchange$Machine" "page" "LCodeExchange$Page;") ∈ lw_all := lw_g (lw_at lw_m2 20 rfl) rfl
theorem q361 : (Jvm.Cond.fieldLink "CodeExchange$Machine" (23 : Nat) "CodeExchange$Machine" "rule" "I") ∈ lw_all := lw_g (lw_at lw_m2 25 rfl) rfl
theorem q366 : (Jvm.Cond.fieldLink "CodeExchange$Machine" (31 : Nat) "CodeExchange$Machine" "first" "I") ∈ lw_all := lw_g (lw_at lw_m2 30 rfl) rfl
theorem q367 : (Jvm.Cond.fieldLink "CodeExchange$Machine" (34 : Nat) "CodeExchange$Machine" "many" "I") ∈ lw_all := lw_g (lw_at lw_m2 31 rfl) rfl
theorem q369 : (Jvm.Cond.fieldLink "CodeExchange$Machine" (37 : Nat) "CodeExchange$Machine" "state" "I") ∈ lw_all := lw_g (lw_at lw_m2 33 rfl) rfl
theorem q376 : (Jvm.Cond.fieldLink "CodeExchange$Machine" (40 : Nat) "CodeExchange$Machine" "pending" "I") ∈ lw_all := lw_g (lw_at lw_m2 40 rfl) rfl
theorem q382 : (Jvm.Cond.fieldLink "CodeExchange$Machine" (43 : Nat) "CodeExchange$Machine" "kept" "I") ∈ lw_all := lw_g (lw_at lw_m2 46 rfl) rfl
theorem q386 : (Jvm.Cond.fieldLink "CodeExchange$Machine" (46 : Nat) "CodeExchange$Machine" "fed" "I") ∈ lw_all := lw_g (lw_at lw_m2 50 rfl) rfl
theorem q387 : (Jvm.Cond.fieldLink "CodeExchange$Machine" (49 : Nat) "CodeExchange$Machine" "how" "I") ∈ lw_all := lw_g (lw_at lw_m2 51 rfl) rfl
theorem q389 : (Jvm.Cond.fieldLink "CodeExchange$Machine" (3 : Nat) "CodeExchange$Machine" "this$0" "LCodeExchange;") ∈ lw_all := lw_g (lw_at lw_m2 53 rfl) rfl
theorem q397 : (Jvm.Cond.soleField "CodeExchange$Machine" "queue") ∈ lw_all := lw_g (lw_at lw_m2 61 rfl) rfl
theorem q399 : (Jvm.Cond.soleField "CodeExchange$Machine" "sink") ∈ lw_all := lw_g (lw_at lw_m2 63 rfl) rfl
theorem q401 : (Jvm.Cond.soleField "CodeExchange$Machine" "page") ∈ lw_all := lw_g (lw_at lw_m2 65 rfl) rfl
theorem q403 : (Jvm.Cond.soleField "CodeExchange$Machine" "rule") ∈ lw_all := lw_g (lw_at lw_m2 67 rfl) rfl
theorem q405 : (Jvm.Cond.soleField "CodeExchange$Machine" "first") ∈ lw_all := lw_g (lw_at lw_m2 69 rfl) rfl
theorem q407 : (Jvm.Cond.soleField "CodeExchange$Machine" "many") ∈ lw_all := lw_g (lw_at lw_m2 71 rfl) rfl
theorem q409 : (Jvm.Cond.soleField "CodeExchange$Machine" "state") ∈ lw_all := lw_g (lw_at lw_m2 73 rfl) rfl
theorem q411 : (Jvm.Cond.soleField "CodeExchange$Machine" "pending") ∈ lw_all := lw_g (lw_at lw_m2 75 rfl) rfl
theorem q413 : (Jvm.Cond.soleField "CodeExchange$Machine" "kept") ∈ lw_all := lw_g (lw_at lw_m2 77 rfl) rfl
theorem q415 : (Jvm.Cond.soleField "CodeExchange$Machine" "fed") ∈ lw_all := lw_g (lw_at lw_m2 79 rfl) rfl
theorem q417 : (Jvm.Cond.soleField "CodeExchange$Machine" "how") ∈ lw_all := lw_g (lw_at lw_m2 81 rfl) rfl
theorem q419 : (Jvm.Cond.soleField "CodeExchange$Machine" "this$0") ∈ lw_all := lw_g (lw_at lw_m2 83 rfl) rfl
theorem q504 : (Jvm.Cond.fieldLinkNest "CodeExchange$Machine" (58 : Nat) "CodeExchange" "place" "I" "CodeExchange") ∈ lw_tbl := lw_at lw_m2 168 rfl
theorem q963 : (Jvm.Cond.instanceMethod ({ cls := "CodeExchange$Machine", name := "begin", desc := "(LCodeExchange$Page;ILCodeExchange$Sink;)V" } : Jvm.MethodName)) ∈ lw_all := lw_g (lw_at lw_m4 147 rfl) rfl
theorem q964 : (Jvm.Cond.sameMethod "CodeExchange$Machine" "CodeExchange$Machine" "begin" "(LCodeExchange$Page;ILCodeExchange$Sink;)V") ∈ lw_all := lw_g (lw_at lw_m4 148 rfl) rfl
theorem q967 : (Jvm.Cond.code ({ cls := "CodeExchange$Machine", name := "begin", desc := "(LCodeExchange$Page;ILCodeExchange$Sink;)V" } : Jvm.MethodName) prog_4_method_2_code (4 : Nat) (Option.none : Option Jvm.ClassFile.FieldType)) ∈ lw_all := lw_g (lw_at lw_m4 151 rfl) rfl
theorem q969 : (Jvm.Cond.instanceMethod ({ cls := "CodeExchange$Machine", name := "feed", desc := "(I)V" } : Jvm.MethodName)) ∈ lw_all := lw_g (lw_at lw_m4 153 rfl) rfl
theorem q970 : (Jvm.Cond.sameMethod "CodeExchange$Machine" "CodeExchange$Machine" "feed" "(I)V") ∈ lw_all := lw_g (lw_at lw_m4 154 rfl) rfl
theorem q973 : (Jvm.Cond.code ({ cls := "CodeExchange$Machine", name := "feed", desc := "(I)V" } : Jvm.MethodName) prog_4_method_9_code (2 : Nat) (Option.none : Option Jvm.ClassFile.FieldType)) ∈ lw_all := lw_g (lw_at lw_m4 157 rfl) rfl
theorem q974 : (Jvm.Cond.methodLink "CodeExchange$Machine" (65 : Nat) ({ cls := "CodeExchange$Machine", name := "step", desc := "(I)V" } : Jvm.MethodName)) ∈ lw_all := lw_g (lw_at lw_m4 158 rfl) rfl
theorem q975 : (Jvm.Cond.declares ({ cls := "CodeExchange$Machine", name := "step", desc := "(I)V" } : Jvm.MethodName)) ∈ lw_tbl := lw_at lw_m4 159 rfl
theorem q976 : (Jvm.Cond.sameMethod "CodeExchange$Machine" "CodeExchange$Machine" "step" "(I)V") ∈ lw_all := lw_g (lw_at lw_m4 160 rfl) rfl
theorem q1062 : (Jvm.Cond.declares ({ cls := "CodeExchange$Machine", name := "ends", desc := "(II)LCodeExchange$Refusal;" } : Jvm.MethodName)) ∈ lw_tbl := lw_at lw_m5 6 rfl
theorem q1064 : (Jvm.Cond.instanceMethod ({ cls := "CodeExchange$Machine", name := "ends", desc := "(II)LCodeExchange$Refusal;" } : Jvm.MethodName)) ∈ lw_all := lw_g (lw_at lw_m5 8 rfl) rfl
theorem q1065 : (Jvm.Cond.code ({ cls := "CodeExchange$Machine", name := "ends", desc := "(II)LCodeExchange$Refusal;" } : Jvm.MethodName) prog_4_method_6_code (3 : Nat) (Option.some (Jvm.ClassFile.FieldType.object "CodeExchange$Refusal"))) ∈ lw_all := lw_g (lw_at lw_m5 9 rfl) rfl
theorem q1066 : (Jvm.Cond.methodLinkNest "CodeExchange$Machine" (61 : Nat) ({ cls := "CodeExchange", name := "refused", desc := "(I)LCodeExchange$Refusal;" } : Jvm.MethodName) "CodeExchange") ∈ lw_tbl := lw_at lw_m5 10 rfl
theorem q1081 : (Jvm.Cond.instanceMethod ({ cls := "CodeExchange$Machine", name := "put", desc := "(I)V" } : Jvm.MethodName)) ∈ lw_all := lw_g (lw_at lw_m5 25 rfl) rfl
theorem q1082 : (Jvm.Cond.publicMethod ({ cls := "CodeExchange$Machine", name := "put", desc := "(I)V" } : Jvm.MethodName)) ∈ lw_tbl := lw_at lw_m5 26 rfl
theorem q1083 : (Jvm.Cond.code ({ cls := "CodeExchange$Machine", name := "put", desc := "(I)V" } : Jvm.MethodName) prog_4_method_4_code (2 : Nat) (Option.none : Option Jvm.ClassFile.FieldType)) ∈ lw_all := lw_g (lw_at lw_m5 27 rfl) rfl
theorem q1084 : (Jvm.Cond.methodLink "CodeExchange$Machine" (52 : Nat) ({ cls := "java/lang/System", name := "arraycopy", desc := "(Ljava/lang/Object;ILjava/lang/Object;II)V" } : Jvm.MethodName)) ∈ lw_all := lw_g (lw_at lw_m5 28 rfl) rfl
theorem q1156 : (Jvm.Cond.instanceMethod ({ cls := "CodeExchange$Machine", name := "end", desc := "()V" } : Jvm.MethodName)) ∈ lw_all := lw_g (lw_at lw_m5 100 rfl) rfl
theorem q1157 : (Jvm.Cond.sameMethod "CodeExchange$Machine" "CodeExchange$Machine" "end" "()V") ∈ lw_all := lw_g (lw_at lw_m5 101 rfl) rfl
theorem q1160 : (Jvm.Cond.code ({ cls := "CodeExchange$Machine", name := "end", desc := "()V" } : Jvm.MethodName) prog_4_method_10_code (1 : Nat) (Option.none : Option Jvm.ClassFile.FieldType)) ∈ lw_all := lw_g (lw_at lw_m5 104 rfl) rfl
theorem q1161 : (Jvm.Cond.methodLink "CodeExchange$Machine" (69 : Nat) ({ cls := "CodeExchange$Machine", name := "last", desc := "()V" } : Jvm.MethodName)) ∈ lw_all := lw_g (lw_at lw_m5 105 rfl) rfl
theorem q1162 : (Jvm.Cond.declares ({ cls := "CodeExchange$Machine", name := "last", desc := "()V" } : Jvm.MethodName)) ∈ lw_tbl := lw_at lw_m5 106 rfl
theorem q1163 : (Jvm.Cond.sameMethod "CodeExchange$Machine" "CodeExchange$Machine" "last" "()V") ∈ lw_all := lw_g (lw_at lw_m5 107 rfl) rfl
theorem q1267 : (Jvm.Cond.instanceMethod ({ cls := "CodeExchange$Machine", name := "waits", desc := "()I" } : Jvm.MethodName)) ∈ lw_all := lw_g (lw_at lw_m5 211 rfl) rfl
theorem q1268 : (Jvm.Cond.publicMethod ({ cls := "CodeExchange$Machine", name := "waits", desc := "()I" } : Jvm.MethodName)) ∈ lw_tbl := lw_at lw_m5 212 rfl
theorem q1269 : (Jvm.Cond.code ({ cls := "CodeExchange$Machine", name := "waits", desc := "()I" } : Jvm.MethodName) prog_4_method_3_code (1 : Nat) (Option.some Jvm.ClassFile.FieldType.int)) ∈ lw_all := lw_g (lw_at lw_m5 213 rfl) rfl
theorem q1275 : (Jvm.Cond.instanceMethod ({ cls := "CodeExchange$Machine", name := "take", desc := "()I" } : Jvm.MethodName)) ∈ lw_all := lw_g (lw_at lw_m5 219 rfl) rfl
theorem q1276 : (Jvm.Cond.sameMethod "CodeExchange$Machine" "CodeExchange$Machine" "take" "()I") ∈ lw_all := lw_g (lw_at lw_m5 220 rfl) rfl
theorem q1279 : (Jvm.Cond.code ({ cls := "CodeExchange$Machine", name := "take", desc := "()I" } : Jvm.MethodName) prog_4_method_5_code (1 : Nat) (Option.some Jvm.ClassFile.FieldType.int)) ∈ lw_all := lw_g (lw_at lw_m5 223 rfl) rfl
theorem q1346 : (Jvm.Cond.declares ({ cls := "CodeExchange$Machine", name := "begin", desc := "(LCodeExchange$Page;ILCodeExchange$Sink;)V" } : Jvm.MethodName)) ∈ lw_tbl := lw_at lw_m6 50 rfl
theorem q1350 : (Jvm.Cond.declares ({ cls := "CodeExchange$Machine", name := "feed", desc := "(I)V" } : Jvm.MethodName)) ∈ lw_tbl := lw_at lw_m6 54 rfl
theorem q1354 : (Jvm.Cond.declares ({ cls := "CodeExchange$Machine", name := "end", desc := "()V" } : Jvm.MethodName)) ∈ lw_tbl := lw_at lw_m6 58 rfl
/-! CodeExchange$Reader -/
set_option maxRecDepth 100000
def RX5 : String := "CodeExchange$Reader"
def TX5 : u_T := fun k => match k with
  | 0 => ("CodeExchange$Machine", "queue", "[I", true)
  | 1 => ("CodeExchange$Machine", "sink", "LCodeExchange$Sink;", false)
  | 2 => ("CodeExchange$Machine", "page", "LCodeExchange$Page;", false)
  | 3 => ("CodeExchange$Machine", "rule", "I", false)
  | 4 => ("CodeExchange$Machine", "first", "I", false)
  | 5 => ("CodeExchange$Machine", "many", "I", false)
  | 6 => ("CodeExchange$Machine", "state", "I", false)
  | 7 => ("CodeExchange$Machine", "pending", "I", false)
  | 8 => ("CodeExchange$Machine", "kept", "I", false)
  | 9 => ("CodeExchange$Machine", "fed", "I", false)
  | 10 => ("CodeExchange$Machine", "how", "I", false)
  | 11 => ("CodeExchange$Machine", "this$0", "LCodeExchange;", true)
  | 12 => ("CodeExchange$Reader", "bytes", "[I", true)
  | 13 => ("CodeExchange$Reader", "faults", "I", false)
  | _ => ("CodeExchange$Reader", "this$0", "LCodeExchange;", true)
def tyX5 : Nat → FieldType := fun k => match k with
  | 0 => .array .int
  | 1 => .object "CodeExchange$Sink"
  | 2 => .object "CodeExchange$Page"
  | 3 => .int
  | 4 => .int
  | 5 => .int
  | 6 => .int
  | 7 => .int
  | 8 => .int
  | 9 => .int
  | 10 => .int
  | 11 => .object "CodeExchange"
  | 12 => .array .int
  | 13 => .int
  | _ => .object "CodeExchange"
abbrev wsX50 : List Cond := u_ws RX5 TX5 15
-- two fields of one name: no nmX5
set_option maxRecDepth 100000 in
theorem tyX5_ok : ∀ k, k < 15 → parseFieldDescriptor (TX5 k).2.2.1 = some (tyX5 k) := by decide +kernel
abbrev cX5_init : ByteArray := prog_6_method_1_code
def yX5_init : MethodName := ⟨RX5, "<init>", "(LCodeExchange;)V"⟩
def dkwX5_init_0 : List UInt8 := [42, 43, 181, 0, 3, 42, 43, 183, 0, 9, 42, 7, 188, 10, 181, 0, 15, 177]
abbrev dktX5_init_0 : List UInt8 := dkwX5_init_0 ++ []
theorem dksX5_init_0 : cX5_init.data.toList.drop 0 = dktX5_init_0 := by decide +kernel
theorem dX5_init_0 : decode cX5_init 0 = .ok (.aload_n 0, 1) := dk_42 (dk_at dksX5_init_0 0 rfl rfl)
theorem dX5_init_1 : decode cX5_init 1 = .ok (.aload_n 1, 1) := dk_43 (dk_at dksX5_init_0 1 rfl rfl)
theorem dX5_init_2 : decode cX5_init 2 = .ok (.putfield 3, 3) := dk_181 0 3 (dk_at dksX5_init_0 2 rfl rfl)
theorem dX5_init_5 : decode cX5_init 5 = .ok (.aload_n 0, 1) := dk_42 (dk_at dksX5_init_0 5 rfl rfl)
theorem dX5_init_6 : decode cX5_init 6 = .ok (.aload_n 1, 1) := dk_43 (dk_at dksX5_init_0 6 rfl rfl)
theorem dX5_init_7 : decode cX5_init 7 = .ok (.invokespecial 9, 3) := dk_183 0 9 (dk_at dksX5_init_0 7 rfl rfl)
theorem dX5_init_10 : decode cX5_init 10 = .ok (.aload_n 0, 1) := dk_42 (dk_at dksX5_init_0 10 rfl rfl)
theorem dX5_init_11 : decode cX5_init 11 = .ok (.iconst 4, 1) := dk_7 (dk_at dksX5_init_0 11 rfl rfl)
theorem dX5_init_12 : decode cX5_init 12 = .ok (.newarray .int, 2) := dk_188_10 (dk_at dksX5_init_0 12 rfl rfl)
theorem dX5_init_14 : decode cX5_init 14 = .ok (.putfield 15, 3) := dk_181 0 15 (dk_at dksX5_init_0 14 rfl rfl)
theorem dX5_init_17 : decode cX5_init 17 = .ok (.return_, 1) := dk_177 (dk_at dksX5_init_0 17 rfl rfl)
abbrev cX5_step : ByteArray := prog_6_method_3_code
def yX5_step : MethodName := ⟨RX5, "step", "(I)V"⟩
def dkwX5_step_1 : List UInt8 := [182, 0, 23, 177]
abbrev dktX5_step_1 : List UInt8 := dkwX5_step_1 ++ []
def dkwX5_step_0 : List UInt8 := [42, 180, 0, 15, 42, 180, 0, 19, 27, 79, 42, 89, 180, 0, 19, 4, 96, 181, 0, 19, 42, 3]
abbrev dktX5_step_0 : List UInt8 := dkwX5_step_0 ++ dktX5_step_1
theorem dksX5_step_0 : cX5_step.data.toList.drop 0 = dktX5_step_0 := by decide +kernel
theorem dksX5_step_1 : cX5_step.data.toList.drop 22 = dktX5_step_1 := dk_seg dksX5_step_0 22 rfl rfl
theorem dX5_step_0 : decode cX5_step 0 = .ok (.aload_n 0, 1) := dk_42 (dk_at dksX5_step_0 0 rfl rfl)
theorem dX5_step_1 : decode cX5_step 1 = .ok (.getfield 15, 3) := dk_180 0 15 (dk_at dksX5_step_0 1 rfl rfl)
theorem dX5_step_4 : decode cX5_step 4 = .ok (.aload_n 0, 1) := dk_42 (dk_at dksX5_step_0 4 rfl rfl)
theorem dX5_step_5 : decode cX5_step 5 = .ok (.getfield 19, 3) := dk_180 0 19 (dk_at dksX5_step_0 5 rfl rfl)
theorem dX5_step_8 : decode cX5_step 8 = .ok (.iload_n 1, 1) := dk_27 (dk_at dksX5_step_0 8 rfl rfl)
theorem dX5_step_9 : decode cX5_step 9 = .ok (.iastore, 1) := dk_79 (dk_at dksX5_step_0 9 rfl rfl)
theorem dX5_step_10 : decode cX5_step 10 = .ok (.aload_n 0, 1) := dk_42 (dk_at dksX5_step_0 10 rfl rfl)
theorem dX5_step_11 : decode cX5_step 11 = .ok (.dup, 1) := dk_89 (dk_at dksX5_step_0 11 rfl rfl)
theorem dX5_step_12 : decode cX5_step 12 = .ok (.getfield 19, 3) := dk_180 0 19 (dk_at dksX5_step_0 12 rfl rfl)
theorem dX5_step_15 : decode cX5_step 15 = .ok (.iconst 1, 1) := dk_4 (dk_at dksX5_step_0 15 rfl rfl)
theorem dX5_step_16 : decode cX5_step 16 = .ok (.iadd, 1) := dk_96 (dk_at dksX5_step_0 16 rfl rfl)
theorem dX5_step_17 : decode cX5_step 17 = .ok (.putfield 19, 3) := dk_181 0 19 (dk_at dksX5_step_0 17 rfl rfl)
theorem dX5_step_20 : decode cX5_step 20 = .ok (.aload_n 0, 1) := dk_42 (dk_at dksX5_step_0 20 rfl rfl)
theorem dX5_step_21 : decode cX5_step 21 = .ok (.iconst 0, 1) := dk_3 (dk_at dksX5_step_0 21 rfl rfl)
theorem dX5_step_22 : decode cX5_step 22 = .ok (.invokevirtual 23, 3) := dk_182 0 23 (dk_at dksX5_step_1 0 rfl rfl)
theorem dX5_step_25 : decode cX5_step 25 = .ok (.return_, 1) := dk_177 (dk_at dksX5_step_1 3 rfl rfl)
abbrev cX5_read : ByteArray := prog_6_method_5_code
def yX5_read : MethodName := ⟨RX5, "read", "(Z)V"⟩
def dkwX5_read_5 : List UInt8 := [180, 0, 66, 181, 0, 34, 167, 255, 133, 177]
abbrev dktX5_read_5 : List UInt8 := dkwX5_read_5 ++ []
def dkwX5_read_4 : List UInt8 := [153, 0, 17, 42, 42, 180, 0, 27, 180, 0, 66, 181, 0, 31, 167, 0, 14, 42, 42, 180, 0, 27]
abbrev dktX5_read_4 : List UInt8 := dkwX5_read_4 ++ dktX5_read_5
def dkwX5_read_3 : List UInt8 := [180, 0, 54, 42, 180, 0, 27, 180, 0, 51, 184, 0, 58, 167, 0, 38, 42, 180, 0, 27, 180, 0, 62]
abbrev dktX5_read_3 : List UInt8 := dkwX5_read_3 ++ dktX5_read_4
def dkwX5_read_2 : List UInt8 := [167, 255, 208, 42, 28, 182, 0, 47, 42, 180, 0, 27, 180, 0, 51, 155, 0, 25, 42, 7, 181, 0, 34, 42]
abbrev dktX5_read_2 : List UInt8 := dkwX5_read_2 ++ dktX5_read_3
def dkwX5_read_1 : List UInt8 := [180, 0, 19, 182, 0, 37, 61, 28, 156, 0, 8, 27, 154, 0, 4, 177, 28, 157, 0, 10, 42, 182, 0, 43]
abbrev dktX5_read_1 : List UInt8 := dkwX5_read_1 ++ dktX5_read_2
def dkwX5_read_0 : List UInt8 := [42, 180, 0, 19, 158, 0, 122, 42, 180, 0, 27, 42, 180, 0, 31, 42, 180, 0, 34, 42, 180, 0, 15, 42]
abbrev dktX5_read_0 : List UInt8 := dkwX5_read_0 ++ dktX5_read_1
theorem dksX5_read_0 : cX5_read.data.toList.drop 0 = dktX5_read_0 := by decide +kernel
theorem dksX5_read_1 : cX5_read.data.toList.drop 24 = dktX5_read_1 := dk_seg dksX5_read_0 24 rfl rfl
theorem dksX5_read_2 : cX5_read.data.toList.drop 48 = dktX5_read_2 := dk_seg dksX5_read_1 24 rfl rfl
theorem dksX5_read_3 : cX5_read.data.toList.drop 72 = dktX5_read_3 := dk_seg dksX5_read_2 24 rfl rfl
theorem dksX5_read_4 : cX5_read.data.toList.drop 95 = dktX5_read_4 := dk_seg dksX5_read_3 23 rfl rfl
theorem dksX5_read_5 : cX5_read.data.toList.drop 117 = dktX5_read_5 := dk_seg dksX5_read_4 22 rfl rfl
theorem dX5_read_0 : decode cX5_read 0 = .ok (.aload_n 0, 1) := dk_42 (dk_at dksX5_read_0 0 rfl rfl)
theorem dX5_read_1 : decode cX5_read 1 = .ok (.getfield 19, 3) := dk_180 0 19 (dk_at dksX5_read_0 1 rfl rfl)
theorem dX5_read_4 : decode cX5_read 4 = .ok (.ifCond .le 122, 3) := dk_158 0 122 (dk_at dksX5_read_0 4 rfl rfl)
theorem dX5_read_7 : decode cX5_read 7 = .ok (.aload_n 0, 1) := dk_42 (dk_at dksX5_read_0 7 rfl rfl)
theorem dX5_read_8 : decode cX5_read 8 = .ok (.getfield 27, 3) := dk_180 0 27 (dk_at dksX5_read_0 8 rfl rfl)
theorem dX5_read_11 : decode cX5_read 11 = .ok (.aload_n 0, 1) := dk_42 (dk_at dksX5_read_0 11 rfl rfl)
theorem dX5_read_12 : decode cX5_read 12 = .ok (.getfield 31, 3) := dk_180 0 31 (dk_at dksX5_read_0 12 rfl rfl)
theorem dX5_read_15 : decode cX5_read 15 = .ok (.aload_n 0, 1) := dk_42 (dk_at dksX5_read_0 15 rfl rfl)
theorem dX5_read_16 : decode cX5_read 16 = .ok (.getfield 34, 3) := dk_180 0 34 (dk_at dksX5_read_0 16 rfl rfl)
theorem dX5_read_19 : decode cX5_read 19 = .ok (.aload_n 0, 1) := dk_42 (dk_at dksX5_read_0 19 rfl rfl)
theorem dX5_read_20 : decode cX5_read 20 = .ok (.getfield 15, 3) := dk_180 0 15 (dk_at dksX5_read_0 20 rfl rfl)
theorem dX5_read_23 : decode cX5_read 23 = .ok (.aload_n 0, 1) := dk_42 (dk_at dksX5_read_0 23 rfl rfl)
theorem dX5_read_24 : decode cX5_read 24 = .ok (.getfield 19, 3) := dk_180 0 19 (dk_at dksX5_read_1 0 rfl rfl)
theorem dX5_read_27 : decode cX5_read 27 = .ok (.invokevirtual 37, 3) := dk_182 0 37 (dk_at dksX5_read_1 3 rfl rfl)
theorem dX5_read_30 : decode cX5_read 30 = .ok (.istore_n 2, 1) := dk_61 (dk_at dksX5_read_1 6 rfl rfl)
theorem dX5_read_31 : decode cX5_read 31 = .ok (.iload_n 2, 1) := dk_28 (dk_at dksX5_read_1 7 rfl rfl)
theorem dX5_read_32 : decode cX5_read 32 = .ok (.ifCond .ge 8, 3) := dk_156 0 8 (dk_at dksX5_read_1 8 rfl rfl)
theorem dX5_read_35 : decode cX5_read 35 = .ok (.iload_n 1, 1) := dk_27 (dk_at dksX5_read_1 11 rfl rfl)
theorem dX5_read_36 : decode cX5_read 36 = .ok (.ifCond .ne 4, 3) := dk_154 0 4 (dk_at dksX5_read_1 12 rfl rfl)
theorem dX5_read_39 : decode cX5_read 39 = .ok (.return_, 1) := dk_177 (dk_at dksX5_read_1 15 rfl rfl)
theorem dX5_read_40 : decode cX5_read 40 = .ok (.iload_n 2, 1) := dk_28 (dk_at dksX5_read_1 16 rfl rfl)
theorem dX5_read_41 : decode cX5_read 41 = .ok (.ifCond .gt 10, 3) := dk_157 0 10 (dk_at dksX5_read_1 17 rfl rfl)
theorem dX5_read_44 : decode cX5_read 44 = .ok (.aload_n 0, 1) := dk_42 (dk_at dksX5_read_1 20 rfl rfl)
theorem dX5_read_45 : decode cX5_read 45 = .ok (.invokevirtual 43, 3) := dk_182 0 43 (dk_at dksX5_read_1 21 rfl rfl)
theorem dX5_read_48 : decode cX5_read 48 = .ok (.goto (-48), 3) := dk_167 255 208 (dk_at dksX5_read_2 0 rfl rfl)
theorem dX5_read_51 : decode cX5_read 51 = .ok (.aload_n 0, 1) := dk_42 (dk_at dksX5_read_2 3 rfl rfl)
theorem dX5_read_52 : decode cX5_read 52 = .ok (.iload_n 2, 1) := dk_28 (dk_at dksX5_read_2 4 rfl rfl)
theorem dX5_read_53 : decode cX5_read 53 = .ok (.invokevirtual 47, 3) := dk_182 0 47 (dk_at dksX5_read_2 5 rfl rfl)
theorem dX5_read_56 : decode cX5_read 56 = .ok (.aload_n 0, 1) := dk_42 (dk_at dksX5_read_2 8 rfl rfl)
theorem dX5_read_57 : decode cX5_read 57 = .ok (.getfield 27, 3) := dk_180 0 27 (dk_at dksX5_read_2 9 rfl rfl)
theorem dX5_read_60 : decode cX5_read 60 = .ok (.getfield 51, 3) := dk_180 0 51 (dk_at dksX5_read_2 12 rfl rfl)
theorem dX5_read_63 : decode cX5_read 63 = .ok (.ifCond .lt 25, 3) := dk_155 0 25 (dk_at dksX5_read_2 15 rfl rfl)
theorem dX5_read_66 : decode cX5_read 66 = .ok (.aload_n 0, 1) := dk_42 (dk_at dksX5_read_2 18 rfl rfl)
theorem dX5_read_67 : decode cX5_read 67 = .ok (.iconst 4, 1) := dk_7 (dk_at dksX5_read_2 19 rfl rfl)
theorem dX5_read_68 : decode cX5_read 68 = .ok (.putfield 34, 3) := dk_181 0 34 (dk_at dksX5_read_2 20 rfl rfl)
theorem dX5_read_71 : decode cX5_read 71 = .ok (.aload_n 0, 1) := dk_42 (dk_at dksX5_read_2 23 rfl rfl)
theorem dX5_read_72 : decode cX5_read 72 = .ok (.getfield 54, 3) := dk_180 0 54 (dk_at dksX5_read_3 0 rfl rfl)
theorem dX5_read_75 : decode cX5_read 75 = .ok (.aload_n 0, 1) := dk_42 (dk_at dksX5_read_3 3 rfl rfl)
theorem dX5_read_76 : decode cX5_read 76 = .ok (.getfield 27, 3) := dk_180 0 27 (dk_at dksX5_read_3 4 rfl rfl)
theorem dX5_read_79 : decode cX5_read 79 = .ok (.getfield 51, 3) := dk_180 0 51 (dk_at dksX5_read_3 7 rfl rfl)
theorem dX5_read_82 : decode cX5_read 82 = .ok (.invokestatic 58, 3) := dk_184 0 58 (dk_at dksX5_read_3 10 rfl rfl)
theorem dX5_read_85 : decode cX5_read 85 = .ok (.goto 38, 3) := dk_167 0 38 (dk_at dksX5_read_3 13 rfl rfl)
theorem dX5_read_88 : decode cX5_read 88 = .ok (.aload_n 0, 1) := dk_42 (dk_at dksX5_read_3 16 rfl rfl)
theorem dX5_read_89 : decode cX5_read 89 = .ok (.getfield 27, 3) := dk_180 0 27 (dk_at dksX5_read_3 17 rfl rfl)
theorem dX5_read_92 : decode cX5_read 92 = .ok (.getfield 62, 3) := dk_180 0 62 (dk_at dksX5_read_3 20 rfl rfl)
theorem dX5_read_95 : decode cX5_read 95 = .ok (.ifCond .eq 17, 3) := dk_153 0 17 (dk_at dksX5_read_4 0 rfl rfl)
theorem dX5_read_98 : decode cX5_read 98 = .ok (.aload_n 0, 1) := dk_42 (dk_at dksX5_read_4 3 rfl rfl)
theorem dX5_read_99 : decode cX5_read 99 = .ok (.aload_n 0, 1) := dk_42 (dk_at dksX5_read_4 4 rfl rfl)
theorem dX5_read_100 : decode cX5_read 100 = .ok (.getfield 27, 3) := dk_180 0 27 (dk_at dksX5_read_4 5 rfl rfl)
theorem dX5_read_103 : decode cX5_read 103 = .ok (.getfield 66, 3) := dk_180 0 66 (dk_at dksX5_read_4 8 rfl rfl)
theorem dX5_read_106 : decode cX5_read 106 = .ok (.putfield 31, 3) := dk_181 0 31 (dk_at dksX5_read_4 11 rfl rfl)
theorem dX5_read_109 : decode cX5_read 109 = .ok (.goto 14, 3) := dk_167 0 14 (dk_at dksX5_read_4 14 rfl rfl)
theorem dX5_read_112 : decode cX5_read 112 = .ok (.aload_n 0, 1) := dk_42 (dk_at dksX5_read_4 17 rfl rfl)
theorem dX5_read_113 : decode cX5_read 113 = .ok (.aload_n 0, 1) := dk_42 (dk_at dksX5_read_4 18 rfl rfl)
theorem dX5_read_114 : decode cX5_read 114 = .ok (.getfield 27, 3) := dk_180 0 27 (dk_at dksX5_read_4 19 rfl rfl)
theorem dX5_read_117 : decode cX5_read 117 = .ok (.getfield 66, 3) := dk_180 0 66 (dk_at dksX5_read_5 0 rfl rfl)
theorem dX5_read_120 : decode cX5_read 120 = .ok (.putfield 34, 3) := dk_181 0 34 (dk_at dksX5_read_5 3 rfl rfl)
theorem dX5_read_123 : decode cX5_read 123 = .ok (.goto (-123), 3) := dk_167 255 133 (dk_at dksX5_read_5 6 rfl rfl)
theorem dX5_read_126 : decode cX5_read 126 = .ok (.return_, 1) := dk_177 (dk_at dksX5_read_5 9 rfl rfl)
abbrev cX5_malformed : ByteArray := prog_6_method_6_code
def yX5_malformed : MethodName := ⟨RX5, "malformed", "()V"⟩
def dkwX5_malformed_4 : List UInt8 := [177]
abbrev dktX5_malformed_4 : List UInt8 := dkwX5_malformed_4 ++ []
def dkwX5_malformed_3 : List UInt8 := [167, 0, 24, 42, 180, 0, 69, 6, 160, 0, 16, 42, 180, 0, 54, 18, 82, 27, 96, 185, 0, 83, 2, 0]
abbrev dktX5_malformed_3 : List UInt8 := dkwX5_malformed_3 ++ dktX5_malformed_4
def dkwX5_malformed_2 : List UInt8 := [180, 0, 69, 4, 160, 0, 22, 42, 180, 0, 54, 42, 180, 0, 3, 180, 0, 79, 3, 46, 184, 0, 58]
abbrev dktX5_malformed_2 : List UInt8 := dkwX5_malformed_2 ++ dktX5_malformed_3
def dkwX5_malformed_1 : List UInt8 := [60, 42, 4, 182, 0, 47, 42, 7, 181, 0, 34, 42, 89, 180, 0, 76, 4, 96, 181, 0, 76, 42]
abbrev dktX5_malformed_1 : List UInt8 := dkwX5_malformed_1 ++ dktX5_malformed_2
def dkwX5_malformed_0 : List UInt8 := [42, 180, 0, 69, 154, 0, 14, 42, 16, 247, 42, 180, 0, 19, 182, 0, 72, 191, 42, 180, 0, 15, 3, 46]
abbrev dktX5_malformed_0 : List UInt8 := dkwX5_malformed_0 ++ dktX5_malformed_1
theorem dksX5_malformed_0 : cX5_malformed.data.toList.drop 0 = dktX5_malformed_0 := by decide +kernel
theorem dksX5_malformed_1 : cX5_malformed.data.toList.drop 24 = dktX5_malformed_1 := dk_seg dksX5_malformed_0 24 rfl rfl
theorem dksX5_malformed_2 : cX5_malformed.data.toList.drop 46 = dktX5_malformed_2 := dk_seg dksX5_malformed_1 22 rfl rfl
theorem dksX5_malformed_3 : cX5_malformed.data.toList.drop 69 = dktX5_malformed_3 := dk_seg dksX5_malformed_2 23 rfl rfl
theorem dksX5_malformed_4 : cX5_malformed.data.toList.drop 93 = dktX5_malformed_4 := dk_seg dksX5_malformed_3 24 rfl rfl
theorem dX5_malformed_0 : decode cX5_malformed 0 = .ok (.aload_n 0, 1) := dk_42 (dk_at dksX5_malformed_0 0 rfl rfl)
theorem dX5_malformed_1 : decode cX5_malformed 1 = .ok (.getfield 69, 3) := dk_180 0 69 (dk_at dksX5_malformed_0 1 rfl rfl)
theorem dX5_malformed_4 : decode cX5_malformed 4 = .ok (.ifCond .ne 14, 3) := dk_154 0 14 (dk_at dksX5_malformed_0 4 rfl rfl)
theorem dX5_malformed_7 : decode cX5_malformed 7 = .ok (.aload_n 0, 1) := dk_42 (dk_at dksX5_malformed_0 7 rfl rfl)
theorem dX5_malformed_8 : decode cX5_malformed 8 = .ok (.bipush (-9), 2) := dk_16 247 (dk_at dksX5_malformed_0 8 rfl rfl)
theorem dX5_malformed_10 : decode cX5_malformed 10 = .ok (.aload_n 0, 1) := dk_42 (dk_at dksX5_malformed_0 10 rfl rfl)
theorem dX5_malformed_11 : decode cX5_malformed 11 = .ok (.getfield 19, 3) := dk_180 0 19 (dk_at dksX5_malformed_0 11 rfl rfl)
theorem dX5_malformed_14 : decode cX5_malformed 14 = .ok (.invokevirtual 72, 3) := dk_182 0 72 (dk_at dksX5_malformed_0 14 rfl rfl)
theorem dX5_malformed_17 : decode cX5_malformed 17 = .ok (.athrow, 1) := dk_191 (dk_at dksX5_malformed_0 17 rfl rfl)
theorem dX5_malformed_18 : decode cX5_malformed 18 = .ok (.aload_n 0, 1) := dk_42 (dk_at dksX5_malformed_0 18 rfl rfl)
theorem dX5_malformed_19 : decode cX5_malformed 19 = .ok (.getfield 15, 3) := dk_180 0 15 (dk_at dksX5_malformed_0 19 rfl rfl)
theorem dX5_malformed_22 : decode cX5_malformed 22 = .ok (.iconst 0, 1) := dk_3 (dk_at dksX5_malformed_0 22 rfl rfl)
theorem dX5_malformed_23 : decode cX5_malformed 23 = .ok (.iaload, 1) := dk_46 (dk_at dksX5_malformed_0 23 rfl rfl)
theorem dX5_malformed_24 : decode cX5_malformed 24 = .ok (.istore_n 1, 1) := dk_60 (dk_at dksX5_malformed_1 0 rfl rfl)
theorem dX5_malformed_25 : decode cX5_malformed 25 = .ok (.aload_n 0, 1) := dk_42 (dk_at dksX5_malformed_1 1 rfl rfl)
theorem dX5_malformed_26 : decode cX5_malformed 26 = .ok (.iconst 1, 1) := dk_4 (dk_at dksX5_malformed_1 2 rfl rfl)
theorem dX5_malformed_27 : decode cX5_malformed 27 = .ok (.invokevirtual 47, 3) := dk_182 0 47 (dk_at dksX5_malformed_1 3 rfl rfl)
theorem dX5_malformed_30 : decode cX5_malformed 30 = .ok (.aload_n 0, 1) := dk_42 (dk_at dksX5_malformed_1 6 rfl rfl)
theorem dX5_malformed_31 : decode cX5_malformed 31 = .ok (.iconst 4, 1) := dk_7 (dk_at dksX5_malformed_1 7 rfl rfl)
theorem dX5_malformed_32 : decode cX5_malformed 32 = .ok (.putfield 34, 3) := dk_181 0 34 (dk_at dksX5_malformed_1 8 rfl rfl)
theorem dX5_malformed_35 : decode cX5_malformed 35 = .ok (.aload_n 0, 1) := dk_42 (dk_at dksX5_malformed_1 11 rfl rfl)
theorem dX5_malformed_36 : decode cX5_malformed 36 = .ok (.dup, 1) := dk_89 (dk_at dksX5_malformed_1 12 rfl rfl)
theorem dX5_malformed_37 : decode cX5_malformed 37 = .ok (.getfield 76, 3) := dk_180 0 76 (dk_at dksX5_malformed_1 13 rfl rfl)
theorem dX5_malformed_40 : decode cX5_malformed 40 = .ok (.iconst 1, 1) := dk_4 (dk_at dksX5_malformed_1 16 rfl rfl)
theorem dX5_malformed_41 : decode cX5_malformed 41 = .ok (.iadd, 1) := dk_96 (dk_at dksX5_malformed_1 17 rfl rfl)
theorem dX5_malformed_42 : decode cX5_malformed 42 = .ok (.putfield 76, 3) := dk_181 0 76 (dk_at dksX5_malformed_1 18 rfl rfl)
theorem dX5_malformed_45 : decode cX5_malformed 45 = .ok (.aload_n 0, 1) := dk_42 (dk_at dksX5_malformed_1 21 rfl rfl)
theorem dX5_malformed_46 : decode cX5_malformed 46 = .ok (.getfield 69, 3) := dk_180 0 69 (dk_at dksX5_malformed_2 0 rfl rfl)
theorem dX5_malformed_49 : decode cX5_malformed 49 = .ok (.iconst 1, 1) := dk_4 (dk_at dksX5_malformed_2 3 rfl rfl)
theorem dX5_malformed_50 : decode cX5_malformed 50 = .ok (.if_icmp .ne 22, 3) := dk_160 0 22 (dk_at dksX5_malformed_2 4 rfl rfl)
theorem dX5_malformed_53 : decode cX5_malformed 53 = .ok (.aload_n 0, 1) := dk_42 (dk_at dksX5_malformed_2 7 rfl rfl)
theorem dX5_malformed_54 : decode cX5_malformed 54 = .ok (.getfield 54, 3) := dk_180 0 54 (dk_at dksX5_malformed_2 8 rfl rfl)
theorem dX5_malformed_57 : decode cX5_malformed 57 = .ok (.aload_n 0, 1) := dk_42 (dk_at dksX5_malformed_2 11 rfl rfl)
theorem dX5_malformed_58 : decode cX5_malformed 58 = .ok (.getfield 3, 3) := dk_180 0 3 (dk_at dksX5_malformed_2 12 rfl rfl)
theorem dX5_malformed_61 : decode cX5_malformed 61 = .ok (.getfield 79, 3) := dk_180 0 79 (dk_at dksX5_malformed_2 15 rfl rfl)
theorem dX5_malformed_64 : decode cX5_malformed 64 = .ok (.iconst 0, 1) := dk_3 (dk_at dksX5_malformed_2 18 rfl rfl)
theorem dX5_malformed_65 : decode cX5_malformed 65 = .ok (.iaload, 1) := dk_46 (dk_at dksX5_malformed_2 19 rfl rfl)
theorem dX5_malformed_66 : decode cX5_malformed 66 = .ok (.invokestatic 58, 3) := dk_184 0 58 (dk_at dksX5_malformed_2 20 rfl rfl)
theorem dX5_malformed_69 : decode cX5_malformed 69 = .ok (.goto 24, 3) := dk_167 0 24 (dk_at dksX5_malformed_3 0 rfl rfl)
theorem dX5_malformed_72 : decode cX5_malformed 72 = .ok (.aload_n 0, 1) := dk_42 (dk_at dksX5_malformed_3 3 rfl rfl)
theorem dX5_malformed_73 : decode cX5_malformed 73 = .ok (.getfield 69, 3) := dk_180 0 69 (dk_at dksX5_malformed_3 4 rfl rfl)
theorem dX5_malformed_76 : decode cX5_malformed 76 = .ok (.iconst 3, 1) := dk_6 (dk_at dksX5_malformed_3 7 rfl rfl)
theorem dX5_malformed_77 : decode cX5_malformed 77 = .ok (.if_icmp .ne 16, 3) := dk_160 0 16 (dk_at dksX5_malformed_3 8 rfl rfl)
theorem dX5_malformed_80 : decode cX5_malformed 80 = .ok (.aload_n 0, 1) := dk_42 (dk_at dksX5_malformed_3 11 rfl rfl)
theorem dX5_malformed_81 : decode cX5_malformed 81 = .ok (.getfield 54, 3) := dk_180 0 54 (dk_at dksX5_malformed_3 12 rfl rfl)
theorem dX5_malformed_84 : decode cX5_malformed 84 = .ok (.ldc 82, 2) := dk_18 82 (dk_at dksX5_malformed_3 15 rfl rfl)
theorem dX5_malformed_86 : decode cX5_malformed 86 = .ok (.iload_n 1, 1) := dk_27 (dk_at dksX5_malformed_3 17 rfl rfl)
theorem dX5_malformed_87 : decode cX5_malformed 87 = .ok (.iadd, 1) := dk_96 (dk_at dksX5_malformed_3 18 rfl rfl)
theorem dX5_malformed_88 : decode cX5_malformed 88 = .ok (.invokeinterface 83 2, 5) := by decide +kernel
theorem dX5_malformed_93 : decode cX5_malformed 93 = .ok (.return_, 1) := dk_177 (dk_at dksX5_malformed_4 0 rfl rfl)
abbrev cX5_skip : ByteArray := prog_6_method_2_code
def yX5_skip : MethodName := ⟨RX5, "skip", "(I)V"⟩
def dkwX5_skip_1 : List UInt8 := [28, 42, 180, 0, 15, 28, 27, 96, 46, 79, 132, 2, 1, 167, 255, 231, 177]
abbrev dktX5_skip_1 : List UInt8 := dkwX5_skip_1 ++ []
def dkwX5_skip_0 : List UInt8 := [42, 89, 180, 0, 19, 27, 100, 181, 0, 19, 3, 61, 28, 42, 180, 0, 19, 162, 0, 23, 42, 180, 0, 15]
abbrev dktX5_skip_0 : List UInt8 := dkwX5_skip_0 ++ dktX5_skip_1
theorem dksX5_skip_0 : cX5_skip.data.toList.drop 0 = dktX5_skip_0 := by decide +kernel
theorem dksX5_skip_1 : cX5_skip.data.toList.drop 24 = dktX5_skip_1 := dk_seg dksX5_skip_0 24 rfl rfl
theorem dX5_skip_0 : decode cX5_skip 0 = .ok (.aload_n 0, 1) := dk_42 (dk_at dksX5_skip_0 0 rfl rfl)
theorem dX5_skip_1 : decode cX5_skip 1 = .ok (.dup, 1) := dk_89 (dk_at dksX5_skip_0 1 rfl rfl)
theorem dX5_skip_2 : decode cX5_skip 2 = .ok (.getfield 19, 3) := dk_180 0 19 (dk_at dksX5_skip_0 2 rfl rfl)
theorem dX5_skip_5 : decode cX5_skip 5 = .ok (.iload_n 1, 1) := dk_27 (dk_at dksX5_skip_0 5 rfl rfl)
theorem dX5_skip_6 : decode cX5_skip 6 = .ok (.isub, 1) := dk_100 (dk_at dksX5_skip_0 6 rfl rfl)
theorem dX5_skip_7 : decode cX5_skip 7 = .ok (.putfield 19, 3) := dk_181 0 19 (dk_at dksX5_skip_0 7 rfl rfl)
theorem dX5_skip_10 : decode cX5_skip 10 = .ok (.iconst 0, 1) := dk_3 (dk_at dksX5_skip_0 10 rfl rfl)
theorem dX5_skip_11 : decode cX5_skip 11 = .ok (.istore_n 2, 1) := dk_61 (dk_at dksX5_skip_0 11 rfl rfl)
theorem dX5_skip_12 : decode cX5_skip 12 = .ok (.iload_n 2, 1) := dk_28 (dk_at dksX5_skip_0 12 rfl rfl)
theorem dX5_skip_13 : decode cX5_skip 13 = .ok (.aload_n 0, 1) := dk_42 (dk_at dksX5_skip_0 13 rfl rfl)
theorem dX5_skip_14 : decode cX5_skip 14 = .ok (.getfield 19, 3) := dk_180 0 19 (dk_at dksX5_skip_0 14 rfl rfl)
theorem dX5_skip_17 : decode cX5_skip 17 = .ok (.if_icmp .ge 23, 3) := dk_162 0 23 (dk_at dksX5_skip_0 17 rfl rfl)
theorem dX5_skip_20 : decode cX5_skip 20 = .ok (.aload_n 0, 1) := dk_42 (dk_at dksX5_skip_0 20 rfl rfl)
theorem dX5_skip_21 : decode cX5_skip 21 = .ok (.getfield 15, 3) := dk_180 0 15 (dk_at dksX5_skip_0 21 rfl rfl)
theorem dX5_skip_24 : decode cX5_skip 24 = .ok (.iload_n 2, 1) := dk_28 (dk_at dksX5_skip_1 0 rfl rfl)
theorem dX5_skip_25 : decode cX5_skip 25 = .ok (.aload_n 0, 1) := dk_42 (dk_at dksX5_skip_1 1 rfl rfl)
theorem dX5_skip_26 : decode cX5_skip 26 = .ok (.getfield 15, 3) := dk_180 0 15 (dk_at dksX5_skip_1 2 rfl rfl)
theorem dX5_skip_29 : decode cX5_skip 29 = .ok (.iload_n 2, 1) := dk_28 (dk_at dksX5_skip_1 5 rfl rfl)
theorem dX5_skip_30 : decode cX5_skip 30 = .ok (.iload_n 1, 1) := dk_27 (dk_at dksX5_skip_1 6 rfl rfl)
theorem dX5_skip_31 : decode cX5_skip 31 = .ok (.iadd, 1) := dk_96 (dk_at dksX5_skip_1 7 rfl rfl)
theorem dX5_skip_32 : decode cX5_skip 32 = .ok (.iaload, 1) := dk_46 (dk_at dksX5_skip_1 8 rfl rfl)
theorem dX5_skip_33 : decode cX5_skip 33 = .ok (.iastore, 1) := dk_79 (dk_at dksX5_skip_1 9 rfl rfl)
theorem dX5_skip_34 : decode cX5_skip 34 = .ok (.iinc 2 1, 3) := dk_132 2 1 (dk_at dksX5_skip_1 10 rfl rfl)
theorem dX5_skip_37 : decode cX5_skip 37 = .ok (.goto (-25), 3) := dk_167 255 231 (dk_at dksX5_skip_1 13 rfl rfl)
theorem dX5_skip_40 : decode cX5_skip 40 = .ok (.return_, 1) := dk_177 (dk_at dksX5_skip_1 16 rfl rfl)
abbrev cX5_last : ByteArray := prog_6_method_4_code
def yX5_last : MethodName := ⟨RX5, "last", "()V"⟩
def dkwX5_last_0 : List UInt8 := [42, 4, 182, 0, 23, 177]
abbrev dktX5_last_0 : List UInt8 := dkwX5_last_0 ++ []
theorem dksX5_last_0 : cX5_last.data.toList.drop 0 = dktX5_last_0 := by decide +kernel
theorem dX5_last_0 : decode cX5_last 0 = .ok (.aload_n 0, 1) := dk_42 (dk_at dksX5_last_0 0 rfl rfl)
theorem dX5_last_1 : decode cX5_last 1 = .ok (.iconst 1, 1) := dk_4 (dk_at dksX5_last_0 1 rfl rfl)
theorem dX5_last_2 : decode cX5_last 2 = .ok (.invokevirtual 23, 3) := dk_182 0 23 (dk_at dksX5_last_0 2 rfl rfl)
theorem dX5_last_5 : decode cX5_last 5 = .ok (.return_, 1) := dk_177 (dk_at dksX5_last_0 5 rfl rfl)
theorem q105 : (Jvm.Cond.initialized "CodeExchange$Reader") ∈ lw_all := lw_g (lw_at lw_m1 9 rfl) rfl
theorem q266 : (Jvm.Cond.fieldLink "CodeExchange$Reader" (51 : Nat) "CodeExchange$Page" "hitPoint" "I") ∈ lw_all := lw_g (lw_at lw_m1 170 rfl) rfl
theorem q269 : (Jvm.Cond.fieldLink "CodeExchange$Reader" (66 : Nat) "CodeExchange$Page" "hitGoal" "I") ∈ lw_all := lw_g (lw_at lw_m1 173 rfl) rfl
theorem q272 : (Jvm.Cond.fieldLink "CodeExchange$Reader" (62 : Nat) "CodeExchange$Page" "hitSticky" "Z") ∈ lw_all := lw_g (lw_at lw_m1 176 rfl) rfl
theorem q338 : (Jvm.Cond.instantiable "CodeExchange$Reader" (15 : Nat)) ∈ lw_all := lw_g (lw_at lw_m2 2 rfl) rfl
theorem q340 : (Jvm.Cond.instanceMethod ({ cls := "CodeExchange$Reader", name := "<init>", desc := "(LCodeExchange;)V" } : Jvm.MethodName)) ∈ lw_all := lw_g (lw_at lw_m2 4 rfl) rfl
theorem q341 : (Jvm.Cond.code ({ cls := "CodeExchange$Reader", name := "<init>", desc := "(LCodeExchange;)V" } : Jvm.MethodName) prog_6_method_1_code (2 : Nat) (Option.none : Option Jvm.ClassFile.FieldType)) ∈ lw_all := lw_g (lw_at lw_m2 5 rfl) rfl
theorem q342 : (Jvm.Cond.methodLinkNest "CodeExchange$Reader" (9 : Nat) ({ cls := "CodeExchange$Machine", name := "<init>", desc := "(LCodeExchange;)V" } : Jvm.MethodName) "CodeExchange") ∈ lw_tbl := lw_at lw_m2 6 rfl
theorem q346 : (Jvm.Cond.fieldLink "CodeExchange$Reader" (15 : Nat) "CodeExchange$Reader" "bytes" "[I") ∈ lw_all := lw_g (lw_at lw_m2 10 rfl) rfl
theorem q347 : (Jvm.Cond.fieldLink "CodeExchange$Reader" (76 : Nat) "CodeExchange$Reader" "faults" "I") ∈ lw_all := lw_g (lw_at lw_m2 11 rfl) rfl
theorem q349 : (Jvm.Cond.fieldLink "CodeExchange$Reader" (3 : Nat) "CodeExchange$Reader" "this$0" "LCodeExchange;") ∈ lw_all := lw_g (lw_at lw_m2 13 rfl) rfl
theorem q354 : (Jvm.Cond.fieldLink "CodeExchange$Reader" (54 : Nat) "CodeExchange$Reader" "sink" "LCodeExchange$Sink;") ∈ lw_all := lw_g (lw_at lw_m2 18 rfl) rfl
theorem q355 : (Jvm.Cond.sameField "CodeExchange$Reader" "CodeExchange$Machine" "sink" "LCodeExchange$Sink;") ∈ lw_all := lw_g (lw_at lw_m2 19 rfl) rfl
theorem q359 : (Jvm.Cond.fieldLink "CodeExchange$Reader" (27 : Nat) "CodeExchange$Reader" "page" "LCodeExchange$Page;") ∈ lw_all := lw_g (lw_at lw_m2 23 rfl) rfl
theorem q360 : (Jvm.Cond.sameField "CodeExchange$Reader" "CodeExchange$Machine" "page" "LCodeExchange$Page;") ∈ lw_all := lw_g (lw_at lw_m2 24 rfl) rfl
theorem q364 : (Jvm.Cond.fieldLink "CodeExchange$Reader" (69 : Nat) "CodeExchange$Reader" "rule" "I") ∈ lw_all := lw_g (lw_at lw_m2 28 rfl) rfl
theorem q365 : (Jvm.Cond.sameField "CodeExchange$Reader" "CodeExchange$Machine" "rule" "I") ∈ lw_all := lw_g (lw_at lw_m2 29 rfl) rfl
theorem q372 : (Jvm.Cond.fieldLink "CodeExchange$Reader" (31 : Nat) "CodeExchange$Reader" "state" "I") ∈ lw_all := lw_g (lw_at lw_m2 36 rfl) rfl
theorem q373 : (Jvm.Cond.sameField "CodeExchange$Reader" "CodeExchange$Machine" "state" "I") ∈ lw_all := lw_g (lw_at lw_m2 37 rfl) rfl
theorem q377 : (Jvm.Cond.fieldLink "CodeExchange$Reader" (34 : Nat) "CodeExchange$Reader" "pending" "I") ∈ lw_all := lw_g (lw_at lw_m2 41 rfl) rfl
theorem q378 : (Jvm.Cond.sameField "CodeExchange$Reader" "CodeExchange$Machine" "pending" "I") ∈ lw_all := lw_g (lw_at lw_m2 42 rfl) rfl
theorem q380 : (Jvm.Cond.fieldLink "CodeExchange$Reader" (19 : Nat) "CodeExchange$Reader" "kept" "I") ∈ lw_all := lw_g (lw_at lw_m2 44 rfl) rfl
theorem q381 : (Jvm.Cond.sameField "CodeExchange$Reader" "CodeExchange$Machine" "kept" "I") ∈ lw_all := lw_g (lw_at lw_m2 45 rfl) rfl
theorem q390 : (Jvm.Cond.laysFinal "CodeExchange$Reader" "CodeExchange$Reader" "bytes" "[I") ∈ lw_all := lw_g (lw_at lw_m2 54 rfl) rfl
theorem q391 : (Jvm.Cond.soleField "CodeExchange$Reader" "bytes") ∈ lw_all := lw_g (lw_at lw_m2 55 rfl) rfl
theorem q392 : (Jvm.Cond.lays "CodeExchange$Reader" "CodeExchange$Reader" "faults" "I") ∈ lw_all := lw_g (lw_at lw_m2 56 rfl) rfl
theorem q393 : (Jvm.Cond.soleField "CodeExchange$Reader" "faults") ∈ lw_all := lw_g (lw_at lw_m2 57 rfl) rfl
theorem q394 : (Jvm.Cond.laysFinal "CodeExchange$Reader" "CodeExchange$Reader" "this$0" "LCodeExchange;") ∈ lw_all := lw_g (lw_at lw_m2 58 rfl) rfl
theorem q395 : (Jvm.Cond.soleField "CodeExchange$Reader" "this$0") ∈ lw_all := lw_g (lw_at lw_m2 59 rfl) rfl
theorem q396 : (Jvm.Cond.laysFinal "CodeExchange$Reader" "CodeExchange$Machine" "queue" "[I") ∈ lw_all := lw_g (lw_at lw_m2 60 rfl) rfl
theorem q398 : (Jvm.Cond.lays "CodeExchange$Reader" "CodeExchange$Machine" "sink" "LCodeExchange$Sink;") ∈ lw_all := lw_g (lw_at lw_m2 62 rfl) rfl
theorem q400 : (Jvm.Cond.lays "CodeExchange$Reader" "CodeExchange$Machine" "page" "LCodeExchange$Page;") ∈ lw_all := lw_g (lw_at lw_m2 64 rfl) rfl
theorem q402 : (Jvm.Cond.lays "CodeExchange$Reader" "CodeExchange$Machine" "rule" "I") ∈ lw_all := lw_g (lw_at lw_m2 66 rfl) rfl
theorem q404 : (Jvm.Cond.lays "CodeExchange$Reader" "CodeExchange$Machine" "first" "I") ∈ lw_all := lw_g (lw_at lw_m2 68 rfl) rfl
theorem q406 : (Jvm.Cond.lays "CodeExchange$Reader" "CodeExchange$Machine" "many" "I") ∈ lw_all := lw_g (lw_at lw_m2 70 rfl) rfl
theorem q408 : (Jvm.Cond.lays "CodeExchange$Reader" "CodeExchange$Machine" "state" "I") ∈ lw_all := lw_g (lw_at lw_m2 72 rfl) rfl
theorem q410 : (Jvm.Cond.lays "CodeExchange$Reader" "CodeExchange$Machine" "pending" "I") ∈ lw_all := lw_g (lw_at lw_m2 74 rfl) rfl
theorem q412 : (Jvm.Cond.lays "CodeExchange$Reader" "CodeExchange$Machine" "kept" "I") ∈ lw_all := lw_g (lw_at lw_m2 76 rfl) rfl
theorem q414 : (Jvm.Cond.lays "CodeExchange$Reader" "CodeExchange$Machine" "fed" "I") ∈ lw_all := lw_g (lw_at lw_m2 78 rfl) rfl
theorem q416 : (Jvm.Cond.lays "CodeExchange$Reader" "CodeExchange$Machine" "how" "I") ∈ lw_all := lw_g (lw_at lw_m2 80 rfl) rfl
theorem q418 : (Jvm.Cond.laysFinal "CodeExchange$Reader" "CodeExchange$Machine" "this$0" "LCodeExchange;") ∈ lw_all := lw_g (lw_at lw_m2 82 rfl) rfl
theorem q420 : (Jvm.Cond.superclass "CodeExchange$Reader" "CodeExchange$Machine") ∈ lw_all := lw_g (lw_at lw_m2 84 rfl) rfl
theorem q490 : (Jvm.Cond.fieldLinkNest "CodeExchange$Reader" (79 : Nat) "CodeExchange" "signs" "[I" "CodeExchange") ∈ lw_tbl := lw_at lw_m2 154 rfl
theorem q965 : (Jvm.Cond.selects "CodeExchange$Reader" ({ cls := "CodeExchange$Machine", name := "begin", desc := "(LCodeExchange$Page;ILCodeExchange$Sink;)V" } : Jvm.MethodName) ({ cls := "CodeExchange$Machine", name := "begin", desc := "(LCodeExchange$Page;ILCodeExchange$Sink;)V" } : Jvm.MethodName)) ∈ lw_all := lw_g (lw_at lw_m4 149 rfl) rfl
theorem q971 : (Jvm.Cond.selects "CodeExchange$Reader" ({ cls := "CodeExchange$Machine", name := "feed", desc := "(I)V" } : Jvm.MethodName) ({ cls := "CodeExchange$Machine", name := "feed", desc := "(I)V" } : Jvm.MethodName)) ∈ lw_all := lw_g (lw_at lw_m4 155 rfl) rfl
theorem q977 : (Jvm.Cond.selects "CodeExchange$Reader" ({ cls := "CodeExchange$Machine", name := "step", desc := "(I)V" } : Jvm.MethodName) ({ cls := "CodeExchange$Reader", name := "step", desc := "(I)V" } : Jvm.MethodName)) ∈ lw_all := lw_g (lw_at lw_m4 161 rfl) rfl
theorem q978 : (Jvm.Cond.instanceMethod ({ cls := "CodeExchange$Reader", name := "step", desc := "(I)V" } : Jvm.MethodName)) ∈ lw_all := lw_g (lw_at lw_m4 162 rfl) rfl
theorem q979 : (Jvm.Cond.code ({ cls := "CodeExchange$Reader", name := "step", desc := "(I)V" } : Jvm.MethodName) prog_6_method_3_code (2 : Nat) (Option.none : Option Jvm.ClassFile.FieldType)) ∈ lw_all := lw_g (lw_at lw_m4 163 rfl) rfl
theorem q980 : (Jvm.Cond.methodLink "CodeExchange$Reader" (23 : Nat) ({ cls := "CodeExchange$Reader", name := "read", desc := "(Z)V" } : Jvm.MethodName)) ∈ lw_all := lw_g (lw_at lw_m4 164 rfl) rfl
theorem q981 : (Jvm.Cond.privateMethod ({ cls := "CodeExchange$Reader", name := "read", desc := "(Z)V" } : Jvm.MethodName)) ∈ lw_tbl := lw_at lw_m4 165 rfl
theorem q982 : (Jvm.Cond.instanceMethod ({ cls := "CodeExchange$Reader", name := "read", desc := "(Z)V" } : Jvm.MethodName)) ∈ lw_all := lw_g (lw_at lw_m4 166 rfl) rfl
theorem q983 : (Jvm.Cond.code ({ cls := "CodeExchange$Reader", name := "read", desc := "(Z)V" } : Jvm.MethodName) prog_6_method_5_code (3 : Nat) (Option.none : Option Jvm.ClassFile.FieldType)) ∈ lw_all := lw_g (lw_at lw_m4 167 rfl) rfl
theorem q984 : (Jvm.Cond.methodLink "CodeExchange$Reader" (37 : Nat) ({ cls := "CodeExchange$Page", name := "match", desc := "(II[II)I" } : Jvm.MethodName)) ∈ lw_all := lw_g (lw_at lw_m4 168 rfl) rfl
theorem q1056 : (Jvm.Cond.methodLink "CodeExchange$Reader" (43 : Nat) ({ cls := "CodeExchange$Reader", name := "malformed", desc := "()V" } : Jvm.MethodName)) ∈ lw_all := lw_g (lw_at lw_m5 0 rfl) rfl
theorem q1057 : (Jvm.Cond.privateMethod ({ cls := "CodeExchange$Reader", name := "malformed", desc := "()V" } : Jvm.MethodName)) ∈ lw_tbl := lw_at lw_m5 1 rfl
theorem q1058 : (Jvm.Cond.instanceMethod ({ cls := "CodeExchange$Reader", name := "malformed", desc := "()V" } : Jvm.MethodName)) ∈ lw_all := lw_g (lw_at lw_m5 2 rfl) rfl
theorem q1059 : (Jvm.Cond.code ({ cls := "CodeExchange$Reader", name := "malformed", desc := "()V" } : Jvm.MethodName) prog_6_method_6_code (2 : Nat) (Option.none : Option Jvm.ClassFile.FieldType)) ∈ lw_all := lw_g (lw_at lw_m5 3 rfl) rfl
theorem q1060 : (Jvm.Cond.methodLink "CodeExchange$Reader" (72 : Nat) ({ cls := "CodeExchange$Reader", name := "ends", desc := "(II)LCodeExchange$Refusal;" } : Jvm.MethodName)) ∈ lw_all := lw_g (lw_at lw_m5 4 rfl) rfl
theorem q1061 : (Jvm.Cond.sameMethod "CodeExchange$Reader" "CodeExchange$Machine" "ends" "(II)LCodeExchange$Refusal;") ∈ lw_all := lw_g (lw_at lw_m5 5 rfl) rfl
theorem q1063 : (Jvm.Cond.selects "CodeExchange$Reader" ({ cls := "CodeExchange$Reader", name := "ends", desc := "(II)LCodeExchange$Refusal;" } : Jvm.MethodName) ({ cls := "CodeExchange$Machine", name := "ends", desc := "(II)LCodeExchange$Refusal;" } : Jvm.MethodName)) ∈ lw_all := lw_g (lw_at lw_m5 7 rfl) rfl
theorem q1067 : (Jvm.Cond.methodLink "CodeExchange$Reader" (47 : Nat) ({ cls := "CodeExchange$Reader", name := "skip", desc := "(I)V" } : Jvm.MethodName)) ∈ lw_all := lw_g (lw_at lw_m5 11 rfl) rfl
theorem q1068 : (Jvm.Cond.privateMethod ({ cls := "CodeExchange$Reader", name := "skip", desc := "(I)V" } : Jvm.MethodName)) ∈ lw_tbl := lw_at lw_m5 12 rfl
theorem q1069 : (Jvm.Cond.instanceMethod ({ cls := "CodeExchange$Reader", name := "skip", desc := "(I)V" } : Jvm.MethodName)) ∈ lw_all := lw_g (lw_at lw_m5 13 rfl) rfl
theorem q1070 : (Jvm.Cond.code ({ cls := "CodeExchange$Reader", name := "skip", desc := "(I)V" } : Jvm.MethodName) prog_6_method_2_code (3 : Nat) (Option.none : Option Jvm.ClassFile.FieldType)) ∈ lw_all := lw_g (lw_at lw_m5 14 rfl) rfl
theorem q1071 : (Jvm.Cond.methodLinkNest "CodeExchange$Reader" (58 : Nat) ({ cls := "CodeExchange", name := "putPoint", desc := "(LCodeExchange$Sink;I)V" } : Jvm.MethodName) "CodeExchange") ∈ lw_tbl := lw_at lw_m5 15 rfl
theorem q1078 : (Jvm.Cond.castable "CodeExchange$Reader" "CodeExchange$Sink") ∈ lw_tbl := lw_at lw_m5 22 rfl
theorem q1079 : (Jvm.Cond.selects "CodeExchange$Reader" ({ cls := "CodeExchange$Sink", name := "put", desc := "(I)V" } : Jvm.MethodName) ({ cls := "CodeExchange$Machine", name := "put", desc := "(I)V" } : Jvm.MethodName)) ∈ lw_all := lw_g (lw_at lw_m5 23 rfl) rfl
theorem q1080 : (Jvm.Cond.unhidden "CodeExchange$Reader" "put" "(I)V") ∈ lw_tbl := lw_at lw_m5 24 rfl
theorem q1095 : (Jvm.Cond.constant "CodeExchange$Reader" (82 : Nat) (56320 : Int32)) ∈ lw_all := lw_g (lw_at lw_m5 39 rfl) rfl
theorem q1096 : (Jvm.Cond.interfaceEntry "CodeExchange$Reader" (83 : Nat)) ∈ lw_tbl := lw_at lw_m5 40 rfl
theorem q1097 : (Jvm.Cond.methodLink "CodeExchange$Reader" (83 : Nat) ({ cls := "CodeExchange$Sink", name := "put", desc := "(I)V" } : Jvm.MethodName)) ∈ lw_all := lw_g (lw_at lw_m5 41 rfl) rfl
theorem q1158 : (Jvm.Cond.selects "CodeExchange$Reader" ({ cls := "CodeExchange$Machine", name := "end", desc := "()V" } : Jvm.MethodName) ({ cls := "CodeExchange$Machine", name := "end", desc := "()V" } : Jvm.MethodName)) ∈ lw_all := lw_g (lw_at lw_m5 102 rfl) rfl
theorem q1164 : (Jvm.Cond.selects "CodeExchange$Reader" ({ cls := "CodeExchange$Machine", name := "last", desc := "()V" } : Jvm.MethodName) ({ cls := "CodeExchange$Reader", name := "last", desc := "()V" } : Jvm.MethodName)) ∈ lw_all := lw_g (lw_at lw_m5 108 rfl) rfl
theorem q1165 : (Jvm.Cond.instanceMethod ({ cls := "CodeExchange$Reader", name := "last", desc := "()V" } : Jvm.MethodName)) ∈ lw_all := lw_g (lw_at lw_m5 109 rfl) rfl
theorem q1166 : (Jvm.Cond.code ({ cls := "CodeExchange$Reader", name := "last", desc := "()V" } : Jvm.MethodName) prog_6_method_4_code (1 : Nat) (Option.none : Option Jvm.ClassFile.FieldType)) ∈ lw_all := lw_g (lw_at lw_m5 110 rfl) rfl
theorem q1256 : (Jvm.Cond.castable "CodeExchange$Reader" "CodeExchange$Steps") ∈ lw_tbl := lw_at lw_m5 200 rfl
theorem q1257 : (Jvm.Cond.unhidden "CodeExchange$Reader" "isEmpty" "()Z") ∈ lw_tbl := lw_at lw_m5 201 rfl
theorem q1265 : (Jvm.Cond.selects "CodeExchange$Reader" ({ cls := "CodeExchange$Steps", name := "waits", desc := "()I" } : Jvm.MethodName) ({ cls := "CodeExchange$Machine", name := "waits", desc := "()I" } : Jvm.MethodName)) ∈ lw_all := lw_g (lw_at lw_m5 209 rfl) rfl
theorem q1266 : (Jvm.Cond.unhidden "CodeExchange$Reader" "waits" "()I") ∈ lw_tbl := lw_at lw_m5 210 rfl
theorem q1277 : (Jvm.Cond.selects "CodeExchange$Reader" ({ cls := "CodeExchange$Machine", name := "take", desc := "()I" } : Jvm.MethodName) ({ cls := "CodeExchange$Machine", name := "take", desc := "()I" } : Jvm.MethodName)) ∈ lw_all := lw_g (lw_at lw_m5 221 rfl) rfl
theorem q1969 : (Jvm.Cond.castable "CodeExchange$Reader" "CodeExchange$Machine") ∈ lw_tbl := lw_at lw_m8 193 rfl
theorem in_X5 : ∀ w ∈ wsX50, w ∈ lw_all := lw_in wsX50 [396, 398, 400, 402, 404, 406, 408, 410, 412, 414, 416, 418, 390, 392, 394] (by decide +kernel) (by decide +kernel)
/-! CodeExchange$Writer -/
set_option maxRecDepth 100000
def RX6 : String := "CodeExchange$Writer"
def TX6 : u_T := fun k => match k with
  | 0 => ("CodeExchange$Machine", "queue", "[I", true)
  | 1 => ("CodeExchange$Machine", "sink", "LCodeExchange$Sink;", false)
  | 2 => ("CodeExchange$Machine", "page", "LCodeExchange$Page;", false)
  | 3 => ("CodeExchange$Machine", "rule", "I", false)
  | 4 => ("CodeExchange$Machine", "first", "I", false)
  | 5 => ("CodeExchange$Machine", "many", "I", false)
  | 6 => ("CodeExchange$Machine", "state", "I", false)
  | 7 => ("CodeExchange$Machine", "pending", "I", false)
  | 8 => ("CodeExchange$Machine", "kept", "I", false)
  | 9 => ("CodeExchange$Machine", "fed", "I", false)
  | 10 => ("CodeExchange$Machine", "how", "I", false)
  | 11 => ("CodeExchange$Machine", "this$0", "LCodeExchange;", true)
  | 12 => ("CodeExchange$Writer", "half", "I", false)
  | 13 => ("CodeExchange$Writer", "points", "[I", true)
  | 14 => ("CodeExchange$Writer", "pointMany", "I", false)
  | _ => ("CodeExchange$Writer", "this$0", "LCodeExchange;", true)
def tyX6 : Nat → FieldType := fun k => match k with
  | 0 => .array .int
  | 1 => .object "CodeExchange$Sink"
  | 2 => .object "CodeExchange$Page"
  | 3 => .int
  | 4 => .int
  | 5 => .int
  | 6 => .int
  | 7 => .int
  | 8 => .int
  | 9 => .int
  | 10 => .int
  | 11 => .object "CodeExchange"
  | 12 => .int
  | 13 => .array .int
  | 14 => .int
  | _ => .object "CodeExchange"
abbrev wsX60 : List Cond := u_ws RX6 TX6 16
-- two fields of one name: no nmX6
set_option maxRecDepth 100000 in
theorem tyX6_ok : ∀ k, k < 16 → parseFieldDescriptor (TX6 k).2.2.1 = some (tyX6 k) := by decide +kernel
abbrev cX6_init : ByteArray := prog_15_method_1_code
def yX6_init : MethodName := ⟨RX6, "<init>", "(LCodeExchange;)V"⟩
def dkwX6_init_0 : List UInt8 := [42, 43, 181, 0, 3, 42, 43, 183, 0, 9, 42, 16, 16, 188, 10, 181, 0, 15, 177]
abbrev dktX6_init_0 : List UInt8 := dkwX6_init_0 ++ []
theorem dksX6_init_0 : cX6_init.data.toList.drop 0 = dktX6_init_0 := by decide +kernel
theorem dX6_init_0 : decode cX6_init 0 = .ok (.aload_n 0, 1) := dk_42 (dk_at dksX6_init_0 0 rfl rfl)
theorem dX6_init_1 : decode cX6_init 1 = .ok (.aload_n 1, 1) := dk_43 (dk_at dksX6_init_0 1 rfl rfl)
theorem dX6_init_2 : decode cX6_init 2 = .ok (.putfield 3, 3) := dk_181 0 3 (dk_at dksX6_init_0 2 rfl rfl)
theorem dX6_init_5 : decode cX6_init 5 = .ok (.aload_n 0, 1) := dk_42 (dk_at dksX6_init_0 5 rfl rfl)
theorem dX6_init_6 : decode cX6_init 6 = .ok (.aload_n 1, 1) := dk_43 (dk_at dksX6_init_0 6 rfl rfl)
theorem dX6_init_7 : decode cX6_init 7 = .ok (.invokespecial 9, 3) := dk_183 0 9 (dk_at dksX6_init_0 7 rfl rfl)
theorem dX6_init_10 : decode cX6_init 10 = .ok (.aload_n 0, 1) := dk_42 (dk_at dksX6_init_0 10 rfl rfl)
theorem dX6_init_11 : decode cX6_init 11 = .ok (.bipush 16, 2) := dk_16 16 (dk_at dksX6_init_0 11 rfl rfl)
theorem dX6_init_13 : decode cX6_init 13 = .ok (.newarray .int, 2) := dk_188_10 (dk_at dksX6_init_0 13 rfl rfl)
theorem dX6_init_15 : decode cX6_init 15 = .ok (.putfield 15, 3) := dk_181 0 15 (dk_at dksX6_init_0 15 rfl rfl)
theorem dX6_init_18 : decode cX6_init 18 = .ok (.return_, 1) := dk_177 (dk_at dksX6_init_0 18 rfl rfl)
abbrev cX6_step : ByteArray := prog_15_method_6_code
def yX6_step : MethodName := ⟨RX6, "step", "(I)V"⟩
def dkwX6_step_3 : List UInt8 := [182, 0, 108, 177]
abbrev dktX6_step_3 : List UInt8 := dkwX6_step_3 ++ []
def dkwX6_step_2 : List UInt8 := [184, 0, 112, 153, 0, 16, 42, 27, 181, 0, 102, 42, 4, 181, 0, 96, 167, 0, 9, 42, 27, 4]
abbrev dktX6_step_2 : List UInt8 := dkwX6_step_2 ++ dktX6_step_3
def dkwX6_step_1 : List UInt8 := [180, 0, 102, 27, 184, 0, 105, 5, 182, 0, 108, 177, 42, 42, 180, 0, 102, 5, 182, 0, 108, 27]
abbrev dktX6_step_1 : List UInt8 := dkwX6_step_1 ++ dktX6_step_2
def dkwX6_step_0 : List UInt8 := [42, 180, 0, 96, 4, 160, 0, 38, 42, 3, 181, 0, 96, 27, 184, 0, 99, 153, 0, 17, 42, 42]
abbrev dktX6_step_0 : List UInt8 := dkwX6_step_0 ++ dktX6_step_1
theorem dksX6_step_0 : cX6_step.data.toList.drop 0 = dktX6_step_0 := by decide +kernel
theorem dksX6_step_1 : cX6_step.data.toList.drop 22 = dktX6_step_1 := dk_seg dksX6_step_0 22 rfl rfl
theorem dksX6_step_2 : cX6_step.data.toList.drop 44 = dktX6_step_2 := dk_seg dksX6_step_1 22 rfl rfl
theorem dksX6_step_3 : cX6_step.data.toList.drop 66 = dktX6_step_3 := dk_seg dksX6_step_2 22 rfl rfl
theorem dX6_step_0 : decode cX6_step 0 = .ok (.aload_n 0, 1) := dk_42 (dk_at dksX6_step_0 0 rfl rfl)
theorem dX6_step_1 : decode cX6_step 1 = .ok (.getfield 96, 3) := dk_180 0 96 (dk_at dksX6_step_0 1 rfl rfl)
theorem dX6_step_4 : decode cX6_step 4 = .ok (.iconst 1, 1) := dk_4 (dk_at dksX6_step_0 4 rfl rfl)
theorem dX6_step_5 : decode cX6_step 5 = .ok (.if_icmp .ne 38, 3) := dk_160 0 38 (dk_at dksX6_step_0 5 rfl rfl)
theorem dX6_step_8 : decode cX6_step 8 = .ok (.aload_n 0, 1) := dk_42 (dk_at dksX6_step_0 8 rfl rfl)
theorem dX6_step_9 : decode cX6_step 9 = .ok (.iconst 0, 1) := dk_3 (dk_at dksX6_step_0 9 rfl rfl)
theorem dX6_step_10 : decode cX6_step 10 = .ok (.putfield 96, 3) := dk_181 0 96 (dk_at dksX6_step_0 10 rfl rfl)
theorem dX6_step_13 : decode cX6_step 13 = .ok (.iload_n 1, 1) := dk_27 (dk_at dksX6_step_0 13 rfl rfl)
theorem dX6_step_14 : decode cX6_step 14 = .ok (.invokestatic 99, 3) := dk_184 0 99 (dk_at dksX6_step_0 14 rfl rfl)
theorem dX6_step_17 : decode cX6_step 17 = .ok (.ifCond .eq 17, 3) := dk_153 0 17 (dk_at dksX6_step_0 17 rfl rfl)
theorem dX6_step_20 : decode cX6_step 20 = .ok (.aload_n 0, 1) := dk_42 (dk_at dksX6_step_0 20 rfl rfl)
theorem dX6_step_21 : decode cX6_step 21 = .ok (.aload_n 0, 1) := dk_42 (dk_at dksX6_step_0 21 rfl rfl)
theorem dX6_step_22 : decode cX6_step 22 = .ok (.getfield 102, 3) := dk_180 0 102 (dk_at dksX6_step_1 0 rfl rfl)
theorem dX6_step_25 : decode cX6_step 25 = .ok (.iload_n 1, 1) := dk_27 (dk_at dksX6_step_1 3 rfl rfl)
theorem dX6_step_26 : decode cX6_step 26 = .ok (.invokestatic 105, 3) := dk_184 0 105 (dk_at dksX6_step_1 4 rfl rfl)
theorem dX6_step_29 : decode cX6_step 29 = .ok (.iconst 2, 1) := dk_5 (dk_at dksX6_step_1 7 rfl rfl)
theorem dX6_step_30 : decode cX6_step 30 = .ok (.invokevirtual 108, 3) := dk_182 0 108 (dk_at dksX6_step_1 8 rfl rfl)
theorem dX6_step_33 : decode cX6_step 33 = .ok (.return_, 1) := dk_177 (dk_at dksX6_step_1 11 rfl rfl)
theorem dX6_step_34 : decode cX6_step 34 = .ok (.aload_n 0, 1) := dk_42 (dk_at dksX6_step_1 12 rfl rfl)
theorem dX6_step_35 : decode cX6_step 35 = .ok (.aload_n 0, 1) := dk_42 (dk_at dksX6_step_1 13 rfl rfl)
theorem dX6_step_36 : decode cX6_step 36 = .ok (.getfield 102, 3) := dk_180 0 102 (dk_at dksX6_step_1 14 rfl rfl)
theorem dX6_step_39 : decode cX6_step 39 = .ok (.iconst 2, 1) := dk_5 (dk_at dksX6_step_1 17 rfl rfl)
theorem dX6_step_40 : decode cX6_step 40 = .ok (.invokevirtual 108, 3) := dk_182 0 108 (dk_at dksX6_step_1 18 rfl rfl)
theorem dX6_step_43 : decode cX6_step 43 = .ok (.iload_n 1, 1) := dk_27 (dk_at dksX6_step_1 21 rfl rfl)
theorem dX6_step_44 : decode cX6_step 44 = .ok (.invokestatic 112, 3) := dk_184 0 112 (dk_at dksX6_step_2 0 rfl rfl)
theorem dX6_step_47 : decode cX6_step 47 = .ok (.ifCond .eq 16, 3) := dk_153 0 16 (dk_at dksX6_step_2 3 rfl rfl)
theorem dX6_step_50 : decode cX6_step 50 = .ok (.aload_n 0, 1) := dk_42 (dk_at dksX6_step_2 6 rfl rfl)
theorem dX6_step_51 : decode cX6_step 51 = .ok (.iload_n 1, 1) := dk_27 (dk_at dksX6_step_2 7 rfl rfl)
theorem dX6_step_52 : decode cX6_step 52 = .ok (.putfield 102, 3) := dk_181 0 102 (dk_at dksX6_step_2 8 rfl rfl)
theorem dX6_step_55 : decode cX6_step 55 = .ok (.aload_n 0, 1) := dk_42 (dk_at dksX6_step_2 11 rfl rfl)
theorem dX6_step_56 : decode cX6_step 56 = .ok (.iconst 1, 1) := dk_4 (dk_at dksX6_step_2 12 rfl rfl)
theorem dX6_step_57 : decode cX6_step 57 = .ok (.putfield 96, 3) := dk_181 0 96 (dk_at dksX6_step_2 13 rfl rfl)
theorem dX6_step_60 : decode cX6_step 60 = .ok (.goto 9, 3) := dk_167 0 9 (dk_at dksX6_step_2 16 rfl rfl)
theorem dX6_step_63 : decode cX6_step 63 = .ok (.aload_n 0, 1) := dk_42 (dk_at dksX6_step_2 19 rfl rfl)
theorem dX6_step_64 : decode cX6_step 64 = .ok (.iload_n 1, 1) := dk_27 (dk_at dksX6_step_2 20 rfl rfl)
theorem dX6_step_65 : decode cX6_step 65 = .ok (.iconst 1, 1) := dk_4 (dk_at dksX6_step_2 21 rfl rfl)
theorem dX6_step_66 : decode cX6_step 66 = .ok (.invokevirtual 108, 3) := dk_182 0 108 (dk_at dksX6_step_3 0 rfl rfl)
theorem dX6_step_69 : decode cX6_step 69 = .ok (.return_, 1) := dk_177 (dk_at dksX6_step_3 3 rfl rfl)
abbrev cX6_all : ByteArray := prog_15_method_5_code
def yX6_all : MethodName := ⟨RX6, "all", "(II)V"⟩
def dkwX6_all_9 : List UInt8 := [182, 0, 77, 132, 6, 1, 167, 255, 228, 177]
abbrev dktX6_all_9 : List UInt8 := dkwX6_all_9 ++ []
def dkwX6_all_8 : List UInt8 := [54, 6, 21, 6, 42, 180, 0, 57, 162, 0, 25, 21, 4, 153, 0, 20, 42, 42, 180, 0, 15, 21, 6, 46]
abbrev dktX6_all_8 : List UInt8 := dkwX6_all_8 ++ dktX6_all_9
def dkwX6_all_7 : List UInt8 := [4, 46, 182, 0, 53, 9, 148, 155, 0, 16, 42, 42, 180, 0, 3, 180, 0, 93, 4, 46, 182, 0, 77, 3]
abbrev dktX6_all_7 : List UInt8 := dkwX6_all_7 ++ dktX6_all_8
def dkwX6_all_6 : List UInt8 := [185, 0, 25, 2, 0, 42, 180, 0, 80, 4, 160, 0, 37, 42, 180, 0, 31, 42, 180, 0, 3, 180, 0, 93]
abbrev dktX6_all_6 : List UInt8 := dkwX6_all_6 ++ dktX6_all_7
def dkwX6_all_5 : List UInt8 := [154, 0, 11, 42, 16, 246, 28, 182, 0, 89, 191, 21, 5, 153, 0, 16, 42, 180, 0, 19, 27, 18, 83, 100]
abbrev dktX6_all_5 : List UInt8 := dkwX6_all_5 ++ dktX6_all_6
def dkwX6_all_4 : List UInt8 := [180, 0, 80, 6, 160, 0, 8, 21, 5, 153, 0, 16, 42, 180, 0, 80, 7, 160, 0, 16, 21, 4]
abbrev dktX6_all_4 : List UInt8 := dkwX6_all_4 ++ dktX6_all_5
def dkwX6_all_3 : List UInt8 := [18, 84, 184, 0, 85, 153, 0, 7, 4, 167, 0, 4, 3, 54, 5, 42, 180, 0, 80, 153, 0, 29, 42]
abbrev dktX6_all_3 : List UInt8 := dkwX6_all_3 ++ dktX6_all_4
def dkwX6_all_2 : List UInt8 := [182, 0, 70, 153, 0, 7, 4, 167, 0, 4, 3, 54, 4, 42, 180, 0, 80, 6, 160, 0, 18, 27, 18, 83]
abbrev dktX6_all_2 : List UInt8 := dkwX6_all_2 ++ dktX6_all_3
def dkwX6_all_1 : List UInt8 := [182, 0, 77, 177, 42, 3, 181, 0, 57, 42, 180, 0, 80, 7, 160, 0, 19, 29, 153, 0, 15, 42, 27]
abbrev dktX6_all_1 : List UInt8 := dkwX6_all_1 ++ dktX6_all_2
def dkwX6_all_0 : List UInt8 := [27, 184, 0, 74, 62, 29, 153, 0, 22, 42, 180, 0, 31, 27, 182, 0, 53, 9, 148, 155, 0, 9, 42, 27]
abbrev dktX6_all_0 : List UInt8 := dkwX6_all_0 ++ dktX6_all_1
theorem dksX6_all_0 : cX6_all.data.toList.drop 0 = dktX6_all_0 := by decide +kernel
theorem dksX6_all_1 : cX6_all.data.toList.drop 24 = dktX6_all_1 := dk_seg dksX6_all_0 24 rfl rfl
theorem dksX6_all_2 : cX6_all.data.toList.drop 47 = dktX6_all_2 := dk_seg dksX6_all_1 23 rfl rfl
theorem dksX6_all_3 : cX6_all.data.toList.drop 71 = dktX6_all_3 := dk_seg dksX6_all_2 24 rfl rfl
theorem dksX6_all_4 : cX6_all.data.toList.drop 94 = dktX6_all_4 := dk_seg dksX6_all_3 23 rfl rfl
theorem dksX6_all_5 : cX6_all.data.toList.drop 116 = dktX6_all_5 := dk_seg dksX6_all_4 22 rfl rfl
theorem dksX6_all_6 : cX6_all.data.toList.drop 140 = dktX6_all_6 := dk_seg dksX6_all_5 24 rfl rfl
theorem dksX6_all_7 : cX6_all.data.toList.drop 164 = dktX6_all_7 := dk_seg dksX6_all_6 24 rfl rfl
theorem dksX6_all_8 : cX6_all.data.toList.drop 188 = dktX6_all_8 := dk_seg dksX6_all_7 24 rfl rfl
theorem dksX6_all_9 : cX6_all.data.toList.drop 212 = dktX6_all_9 := dk_seg dksX6_all_8 24 rfl rfl
theorem dX6_all_0 : decode cX6_all 0 = .ok (.iload_n 1, 1) := dk_27 (dk_at dksX6_all_0 0 rfl rfl)
theorem dX6_all_1 : decode cX6_all 1 = .ok (.invokestatic 74, 3) := dk_184 0 74 (dk_at dksX6_all_0 1 rfl rfl)
theorem dX6_all_4 : decode cX6_all 4 = .ok (.istore_n 3, 1) := dk_62 (dk_at dksX6_all_0 4 rfl rfl)
theorem dX6_all_5 : decode cX6_all 5 = .ok (.iload_n 3, 1) := dk_29 (dk_at dksX6_all_0 5 rfl rfl)
theorem dX6_all_6 : decode cX6_all 6 = .ok (.ifCond .eq 22, 3) := dk_153 0 22 (dk_at dksX6_all_0 6 rfl rfl)
theorem dX6_all_9 : decode cX6_all 9 = .ok (.aload_n 0, 1) := dk_42 (dk_at dksX6_all_0 9 rfl rfl)
theorem dX6_all_10 : decode cX6_all 10 = .ok (.getfield 31, 3) := dk_180 0 31 (dk_at dksX6_all_0 10 rfl rfl)
theorem dX6_all_13 : decode cX6_all 13 = .ok (.iload_n 1, 1) := dk_27 (dk_at dksX6_all_0 13 rfl rfl)
theorem dX6_all_14 : decode cX6_all 14 = .ok (.invokevirtual 53, 3) := dk_182 0 53 (dk_at dksX6_all_0 14 rfl rfl)
theorem dX6_all_17 : decode cX6_all 17 = .ok (.lconst 0, 1) := dk_9 (dk_at dksX6_all_0 17 rfl rfl)
theorem dX6_all_18 : decode cX6_all 18 = .ok (.lcmp, 1) := dk_148 (dk_at dksX6_all_0 18 rfl rfl)
theorem dX6_all_19 : decode cX6_all 19 = .ok (.ifCond .lt 9, 3) := dk_155 0 9 (dk_at dksX6_all_0 19 rfl rfl)
theorem dX6_all_22 : decode cX6_all 22 = .ok (.aload_n 0, 1) := dk_42 (dk_at dksX6_all_0 22 rfl rfl)
theorem dX6_all_23 : decode cX6_all 23 = .ok (.iload_n 1, 1) := dk_27 (dk_at dksX6_all_0 23 rfl rfl)
theorem dX6_all_24 : decode cX6_all 24 = .ok (.invokevirtual 77, 3) := dk_182 0 77 (dk_at dksX6_all_1 0 rfl rfl)
theorem dX6_all_27 : decode cX6_all 27 = .ok (.return_, 1) := dk_177 (dk_at dksX6_all_1 3 rfl rfl)
theorem dX6_all_28 : decode cX6_all 28 = .ok (.aload_n 0, 1) := dk_42 (dk_at dksX6_all_1 4 rfl rfl)
theorem dX6_all_29 : decode cX6_all 29 = .ok (.iconst 0, 1) := dk_3 (dk_at dksX6_all_1 5 rfl rfl)
theorem dX6_all_30 : decode cX6_all 30 = .ok (.putfield 57, 3) := dk_181 0 57 (dk_at dksX6_all_1 6 rfl rfl)
theorem dX6_all_33 : decode cX6_all 33 = .ok (.aload_n 0, 1) := dk_42 (dk_at dksX6_all_1 9 rfl rfl)
theorem dX6_all_34 : decode cX6_all 34 = .ok (.getfield 80, 3) := dk_180 0 80 (dk_at dksX6_all_1 10 rfl rfl)
theorem dX6_all_37 : decode cX6_all 37 = .ok (.iconst 4, 1) := dk_7 (dk_at dksX6_all_1 13 rfl rfl)
theorem dX6_all_38 : decode cX6_all 38 = .ok (.if_icmp .ne 19, 3) := dk_160 0 19 (dk_at dksX6_all_1 14 rfl rfl)
theorem dX6_all_41 : decode cX6_all 41 = .ok (.iload_n 3, 1) := dk_29 (dk_at dksX6_all_1 17 rfl rfl)
theorem dX6_all_42 : decode cX6_all 42 = .ok (.ifCond .eq 15, 3) := dk_153 0 15 (dk_at dksX6_all_1 18 rfl rfl)
theorem dX6_all_45 : decode cX6_all 45 = .ok (.aload_n 0, 1) := dk_42 (dk_at dksX6_all_1 21 rfl rfl)
theorem dX6_all_46 : decode cX6_all 46 = .ok (.iload_n 1, 1) := dk_27 (dk_at dksX6_all_1 22 rfl rfl)
theorem dX6_all_47 : decode cX6_all 47 = .ok (.invokevirtual 70, 3) := dk_182 0 70 (dk_at dksX6_all_2 0 rfl rfl)
theorem dX6_all_50 : decode cX6_all 50 = .ok (.ifCond .eq 7, 3) := dk_153 0 7 (dk_at dksX6_all_2 3 rfl rfl)
theorem dX6_all_53 : decode cX6_all 53 = .ok (.iconst 1, 1) := dk_4 (dk_at dksX6_all_2 6 rfl rfl)
theorem dX6_all_54 : decode cX6_all 54 = .ok (.goto 4, 3) := dk_167 0 4 (dk_at dksX6_all_2 7 rfl rfl)
theorem dX6_all_57 : decode cX6_all 57 = .ok (.iconst 0, 1) := dk_3 (dk_at dksX6_all_2 10 rfl rfl)
theorem dX6_all_58 : decode cX6_all 58 = .ok (.istore 4, 2) := dk_54 4 (dk_at dksX6_all_2 11 rfl rfl)
theorem dX6_all_60 : decode cX6_all 60 = .ok (.aload_n 0, 1) := dk_42 (dk_at dksX6_all_2 13 rfl rfl)
theorem dX6_all_61 : decode cX6_all 61 = .ok (.getfield 80, 3) := dk_180 0 80 (dk_at dksX6_all_2 14 rfl rfl)
theorem dX6_all_64 : decode cX6_all 64 = .ok (.iconst 3, 1) := dk_6 (dk_at dksX6_all_2 17 rfl rfl)
theorem dX6_all_65 : decode cX6_all 65 = .ok (.if_icmp .ne 18, 3) := dk_160 0 18 (dk_at dksX6_all_2 18 rfl rfl)
theorem dX6_all_68 : decode cX6_all 68 = .ok (.iload_n 1, 1) := dk_27 (dk_at dksX6_all_2 21 rfl rfl)
theorem dX6_all_69 : decode cX6_all 69 = .ok (.ldc 83, 2) := dk_18 83 (dk_at dksX6_all_2 22 rfl rfl)
theorem dX6_all_71 : decode cX6_all 71 = .ok (.ldc 84, 2) := dk_18 84 (dk_at dksX6_all_3 0 rfl rfl)
theorem dX6_all_73 : decode cX6_all 73 = .ok (.invokestatic 85, 3) := dk_184 0 85 (dk_at dksX6_all_3 2 rfl rfl)
theorem dX6_all_76 : decode cX6_all 76 = .ok (.ifCond .eq 7, 3) := dk_153 0 7 (dk_at dksX6_all_3 5 rfl rfl)
theorem dX6_all_79 : decode cX6_all 79 = .ok (.iconst 1, 1) := dk_4 (dk_at dksX6_all_3 8 rfl rfl)
theorem dX6_all_80 : decode cX6_all 80 = .ok (.goto 4, 3) := dk_167 0 4 (dk_at dksX6_all_3 9 rfl rfl)
theorem dX6_all_83 : decode cX6_all 83 = .ok (.iconst 0, 1) := dk_3 (dk_at dksX6_all_3 12 rfl rfl)
theorem dX6_all_84 : decode cX6_all 84 = .ok (.istore 5, 2) := dk_54 5 (dk_at dksX6_all_3 13 rfl rfl)
theorem dX6_all_86 : decode cX6_all 86 = .ok (.aload_n 0, 1) := dk_42 (dk_at dksX6_all_3 15 rfl rfl)
theorem dX6_all_87 : decode cX6_all 87 = .ok (.getfield 80, 3) := dk_180 0 80 (dk_at dksX6_all_3 16 rfl rfl)
theorem dX6_all_90 : decode cX6_all 90 = .ok (.ifCond .eq 29, 3) := dk_153 0 29 (dk_at dksX6_all_3 19 rfl rfl)
theorem dX6_all_93 : decode cX6_all 93 = .ok (.aload_n 0, 1) := dk_42 (dk_at dksX6_all_3 22 rfl rfl)
theorem dX6_all_94 : decode cX6_all 94 = .ok (.getfield 80, 3) := dk_180 0 80 (dk_at dksX6_all_4 0 rfl rfl)
theorem dX6_all_97 : decode cX6_all 97 = .ok (.iconst 3, 1) := dk_6 (dk_at dksX6_all_4 3 rfl rfl)
theorem dX6_all_98 : decode cX6_all 98 = .ok (.if_icmp .ne 8, 3) := dk_160 0 8 (dk_at dksX6_all_4 4 rfl rfl)
theorem dX6_all_101 : decode cX6_all 101 = .ok (.iload 5, 2) := dk_21 5 (dk_at dksX6_all_4 7 rfl rfl)
theorem dX6_all_103 : decode cX6_all 103 = .ok (.ifCond .eq 16, 3) := dk_153 0 16 (dk_at dksX6_all_4 9 rfl rfl)
theorem dX6_all_106 : decode cX6_all 106 = .ok (.aload_n 0, 1) := dk_42 (dk_at dksX6_all_4 12 rfl rfl)
theorem dX6_all_107 : decode cX6_all 107 = .ok (.getfield 80, 3) := dk_180 0 80 (dk_at dksX6_all_4 13 rfl rfl)
theorem dX6_all_110 : decode cX6_all 110 = .ok (.iconst 4, 1) := dk_7 (dk_at dksX6_all_4 16 rfl rfl)
theorem dX6_all_111 : decode cX6_all 111 = .ok (.if_icmp .ne 16, 3) := dk_160 0 16 (dk_at dksX6_all_4 17 rfl rfl)
theorem dX6_all_114 : decode cX6_all 114 = .ok (.iload 4, 2) := dk_21 4 (dk_at dksX6_all_4 20 rfl rfl)
theorem dX6_all_116 : decode cX6_all 116 = .ok (.ifCond .ne 11, 3) := dk_154 0 11 (dk_at dksX6_all_5 0 rfl rfl)
theorem dX6_all_119 : decode cX6_all 119 = .ok (.aload_n 0, 1) := dk_42 (dk_at dksX6_all_5 3 rfl rfl)
theorem dX6_all_120 : decode cX6_all 120 = .ok (.bipush (-10), 2) := dk_16 246 (dk_at dksX6_all_5 4 rfl rfl)
theorem dX6_all_122 : decode cX6_all 122 = .ok (.iload_n 2, 1) := dk_28 (dk_at dksX6_all_5 6 rfl rfl)
theorem dX6_all_123 : decode cX6_all 123 = .ok (.invokevirtual 89, 3) := dk_182 0 89 (dk_at dksX6_all_5 7 rfl rfl)
theorem dX6_all_126 : decode cX6_all 126 = .ok (.athrow, 1) := dk_191 (dk_at dksX6_all_5 10 rfl rfl)
theorem dX6_all_127 : decode cX6_all 127 = .ok (.iload 5, 2) := dk_21 5 (dk_at dksX6_all_5 11 rfl rfl)
theorem dX6_all_129 : decode cX6_all 129 = .ok (.ifCond .eq 16, 3) := dk_153 0 16 (dk_at dksX6_all_5 13 rfl rfl)
theorem dX6_all_132 : decode cX6_all 132 = .ok (.aload_n 0, 1) := dk_42 (dk_at dksX6_all_5 16 rfl rfl)
theorem dX6_all_133 : decode cX6_all 133 = .ok (.getfield 19, 3) := dk_180 0 19 (dk_at dksX6_all_5 17 rfl rfl)
theorem dX6_all_136 : decode cX6_all 136 = .ok (.iload_n 1, 1) := dk_27 (dk_at dksX6_all_5 20 rfl rfl)
theorem dX6_all_137 : decode cX6_all 137 = .ok (.ldc 83, 2) := dk_18 83 (dk_at dksX6_all_5 21 rfl rfl)
theorem dX6_all_139 : decode cX6_all 139 = .ok (.isub, 1) := dk_100 (dk_at dksX6_all_5 23 rfl rfl)
theorem dX6_all_140 : decode cX6_all 140 = .ok (.invokeinterface 25 2, 5) := by decide +kernel
theorem dX6_all_145 : decode cX6_all 145 = .ok (.aload_n 0, 1) := dk_42 (dk_at dksX6_all_6 5 rfl rfl)
theorem dX6_all_146 : decode cX6_all 146 = .ok (.getfield 80, 3) := dk_180 0 80 (dk_at dksX6_all_6 6 rfl rfl)
theorem dX6_all_149 : decode cX6_all 149 = .ok (.iconst 1, 1) := dk_4 (dk_at dksX6_all_6 9 rfl rfl)
theorem dX6_all_150 : decode cX6_all 150 = .ok (.if_icmp .ne 37, 3) := dk_160 0 37 (dk_at dksX6_all_6 10 rfl rfl)
theorem dX6_all_153 : decode cX6_all 153 = .ok (.aload_n 0, 1) := dk_42 (dk_at dksX6_all_6 13 rfl rfl)
theorem dX6_all_154 : decode cX6_all 154 = .ok (.getfield 31, 3) := dk_180 0 31 (dk_at dksX6_all_6 14 rfl rfl)
theorem dX6_all_157 : decode cX6_all 157 = .ok (.aload_n 0, 1) := dk_42 (dk_at dksX6_all_6 17 rfl rfl)
theorem dX6_all_158 : decode cX6_all 158 = .ok (.getfield 3, 3) := dk_180 0 3 (dk_at dksX6_all_6 18 rfl rfl)
theorem dX6_all_161 : decode cX6_all 161 = .ok (.getfield 93, 3) := dk_180 0 93 (dk_at dksX6_all_6 21 rfl rfl)
theorem dX6_all_164 : decode cX6_all 164 = .ok (.iconst 1, 1) := dk_4 (dk_at dksX6_all_7 0 rfl rfl)
theorem dX6_all_165 : decode cX6_all 165 = .ok (.iaload, 1) := dk_46 (dk_at dksX6_all_7 1 rfl rfl)
theorem dX6_all_166 : decode cX6_all 166 = .ok (.invokevirtual 53, 3) := dk_182 0 53 (dk_at dksX6_all_7 2 rfl rfl)
theorem dX6_all_169 : decode cX6_all 169 = .ok (.lconst 0, 1) := dk_9 (dk_at dksX6_all_7 5 rfl rfl)
theorem dX6_all_170 : decode cX6_all 170 = .ok (.lcmp, 1) := dk_148 (dk_at dksX6_all_7 6 rfl rfl)
theorem dX6_all_171 : decode cX6_all 171 = .ok (.ifCond .lt 16, 3) := dk_155 0 16 (dk_at dksX6_all_7 7 rfl rfl)
theorem dX6_all_174 : decode cX6_all 174 = .ok (.aload_n 0, 1) := dk_42 (dk_at dksX6_all_7 10 rfl rfl)
theorem dX6_all_175 : decode cX6_all 175 = .ok (.aload_n 0, 1) := dk_42 (dk_at dksX6_all_7 11 rfl rfl)
theorem dX6_all_176 : decode cX6_all 176 = .ok (.getfield 3, 3) := dk_180 0 3 (dk_at dksX6_all_7 12 rfl rfl)
theorem dX6_all_179 : decode cX6_all 179 = .ok (.getfield 93, 3) := dk_180 0 93 (dk_at dksX6_all_7 15 rfl rfl)
theorem dX6_all_182 : decode cX6_all 182 = .ok (.iconst 1, 1) := dk_4 (dk_at dksX6_all_7 18 rfl rfl)
theorem dX6_all_183 : decode cX6_all 183 = .ok (.iaload, 1) := dk_46 (dk_at dksX6_all_7 19 rfl rfl)
theorem dX6_all_184 : decode cX6_all 184 = .ok (.invokevirtual 77, 3) := dk_182 0 77 (dk_at dksX6_all_7 20 rfl rfl)
theorem dX6_all_187 : decode cX6_all 187 = .ok (.iconst 0, 1) := dk_3 (dk_at dksX6_all_7 23 rfl rfl)
theorem dX6_all_188 : decode cX6_all 188 = .ok (.istore 6, 2) := dk_54 6 (dk_at dksX6_all_8 0 rfl rfl)
theorem dX6_all_190 : decode cX6_all 190 = .ok (.iload 6, 2) := dk_21 6 (dk_at dksX6_all_8 2 rfl rfl)
theorem dX6_all_192 : decode cX6_all 192 = .ok (.aload_n 0, 1) := dk_42 (dk_at dksX6_all_8 4 rfl rfl)
theorem dX6_all_193 : decode cX6_all 193 = .ok (.getfield 57, 3) := dk_180 0 57 (dk_at dksX6_all_8 5 rfl rfl)
theorem dX6_all_196 : decode cX6_all 196 = .ok (.if_icmp .ge 25, 3) := dk_162 0 25 (dk_at dksX6_all_8 8 rfl rfl)
theorem dX6_all_199 : decode cX6_all 199 = .ok (.iload 4, 2) := dk_21 4 (dk_at dksX6_all_8 11 rfl rfl)
theorem dX6_all_201 : decode cX6_all 201 = .ok (.ifCond .eq 20, 3) := dk_153 0 20 (dk_at dksX6_all_8 13 rfl rfl)
theorem dX6_all_204 : decode cX6_all 204 = .ok (.aload_n 0, 1) := dk_42 (dk_at dksX6_all_8 16 rfl rfl)
theorem dX6_all_205 : decode cX6_all 205 = .ok (.aload_n 0, 1) := dk_42 (dk_at dksX6_all_8 17 rfl rfl)
theorem dX6_all_206 : decode cX6_all 206 = .ok (.getfield 15, 3) := dk_180 0 15 (dk_at dksX6_all_8 18 rfl rfl)
theorem dX6_all_209 : decode cX6_all 209 = .ok (.iload 6, 2) := dk_21 6 (dk_at dksX6_all_8 21 rfl rfl)
theorem dX6_all_211 : decode cX6_all 211 = .ok (.iaload, 1) := dk_46 (dk_at dksX6_all_8 23 rfl rfl)
theorem dX6_all_212 : decode cX6_all 212 = .ok (.invokevirtual 77, 3) := dk_182 0 77 (dk_at dksX6_all_9 0 rfl rfl)
theorem dX6_all_215 : decode cX6_all 215 = .ok (.iinc 6 1, 3) := dk_132 6 1 (dk_at dksX6_all_9 3 rfl rfl)
theorem dX6_all_218 : decode cX6_all 218 = .ok (.goto (-28), 3) := dk_167 255 228 (dk_at dksX6_all_9 6 rfl rfl)
theorem dX6_all_221 : decode cX6_all 221 = .ok (.return_, 1) := dk_177 (dk_at dksX6_all_9 9 rfl rfl)
abbrev cX6_write : ByteArray := prog_15_method_3_code
def yX6_write : MethodName := ⟨RX6, "write", "(I)V"⟩
def dkwX6_write_1 : List UInt8 := [180, 0, 35, 27, 182, 0, 49, 181, 0, 35, 42, 42, 180, 0, 31, 27, 182, 0, 53, 182, 0, 45, 177]
abbrev dktX6_write_1 : List UInt8 := dkwX6_write_1 ++ []
def dkwX6_write_0 : List UInt8 := [42, 42, 180, 0, 31, 42, 180, 0, 35, 27, 182, 0, 39, 182, 0, 45, 42, 42, 180, 0, 31, 42]
abbrev dktX6_write_0 : List UInt8 := dkwX6_write_0 ++ dktX6_write_1
theorem dksX6_write_0 : cX6_write.data.toList.drop 0 = dktX6_write_0 := by decide +kernel
theorem dksX6_write_1 : cX6_write.data.toList.drop 22 = dktX6_write_1 := dk_seg dksX6_write_0 22 rfl rfl
theorem dX6_write_0 : decode cX6_write 0 = .ok (.aload_n 0, 1) := dk_42 (dk_at dksX6_write_0 0 rfl rfl)
theorem dX6_write_1 : decode cX6_write 1 = .ok (.aload_n 0, 1) := dk_42 (dk_at dksX6_write_0 1 rfl rfl)
theorem dX6_write_2 : decode cX6_write 2 = .ok (.getfield 31, 3) := dk_180 0 31 (dk_at dksX6_write_0 2 rfl rfl)
theorem dX6_write_5 : decode cX6_write 5 = .ok (.aload_n 0, 1) := dk_42 (dk_at dksX6_write_0 5 rfl rfl)
theorem dX6_write_6 : decode cX6_write 6 = .ok (.getfield 35, 3) := dk_180 0 35 (dk_at dksX6_write_0 6 rfl rfl)
theorem dX6_write_9 : decode cX6_write 9 = .ok (.iload_n 1, 1) := dk_27 (dk_at dksX6_write_0 9 rfl rfl)
theorem dX6_write_10 : decode cX6_write 10 = .ok (.invokevirtual 39, 3) := dk_182 0 39 (dk_at dksX6_write_0 10 rfl rfl)
theorem dX6_write_13 : decode cX6_write 13 = .ok (.invokevirtual 45, 3) := dk_182 0 45 (dk_at dksX6_write_0 13 rfl rfl)
theorem dX6_write_16 : decode cX6_write 16 = .ok (.aload_n 0, 1) := dk_42 (dk_at dksX6_write_0 16 rfl rfl)
theorem dX6_write_17 : decode cX6_write 17 = .ok (.aload_n 0, 1) := dk_42 (dk_at dksX6_write_0 17 rfl rfl)
theorem dX6_write_18 : decode cX6_write 18 = .ok (.getfield 31, 3) := dk_180 0 31 (dk_at dksX6_write_0 18 rfl rfl)
theorem dX6_write_21 : decode cX6_write 21 = .ok (.aload_n 0, 1) := dk_42 (dk_at dksX6_write_0 21 rfl rfl)
theorem dX6_write_22 : decode cX6_write 22 = .ok (.getfield 35, 3) := dk_180 0 35 (dk_at dksX6_write_1 0 rfl rfl)
theorem dX6_write_25 : decode cX6_write 25 = .ok (.iload_n 1, 1) := dk_27 (dk_at dksX6_write_1 3 rfl rfl)
theorem dX6_write_26 : decode cX6_write 26 = .ok (.invokevirtual 49, 3) := dk_182 0 49 (dk_at dksX6_write_1 4 rfl rfl)
theorem dX6_write_29 : decode cX6_write 29 = .ok (.putfield 35, 3) := dk_181 0 35 (dk_at dksX6_write_1 7 rfl rfl)
theorem dX6_write_32 : decode cX6_write 32 = .ok (.aload_n 0, 1) := dk_42 (dk_at dksX6_write_1 10 rfl rfl)
theorem dX6_write_33 : decode cX6_write 33 = .ok (.aload_n 0, 1) := dk_42 (dk_at dksX6_write_1 11 rfl rfl)
theorem dX6_write_34 : decode cX6_write 34 = .ok (.getfield 31, 3) := dk_180 0 31 (dk_at dksX6_write_1 12 rfl rfl)
theorem dX6_write_37 : decode cX6_write 37 = .ok (.iload_n 1, 1) := dk_27 (dk_at dksX6_write_1 15 rfl rfl)
theorem dX6_write_38 : decode cX6_write 38 = .ok (.invokevirtual 53, 3) := dk_182 0 53 (dk_at dksX6_write_1 16 rfl rfl)
theorem dX6_write_41 : decode cX6_write 41 = .ok (.invokevirtual 45, 3) := dk_182 0 45 (dk_at dksX6_write_1 19 rfl rfl)
theorem dX6_write_44 : decode cX6_write 44 = .ok (.return_, 1) := dk_177 (dk_at dksX6_write_1 22 rfl rfl)
abbrev cX6_putBytes : ByteArray := prog_15_method_2_code
def yX6_putBytes : MethodName := ⟨RX6, "putBytes", "(J)V"⟩
def dkwX6_putBytes_1 : List UInt8 := [20, 0, 23, 127, 136, 185, 0, 25, 2, 0, 132, 3, 255, 167, 255, 229, 177]
abbrev dktX6_putBytes_1 : List UInt8 := dkwX6_putBytes_1 ++ []
def dkwX6_putBytes_0 : List UInt8 := [31, 16, 32, 123, 136, 4, 100, 62, 29, 155, 0, 29, 42, 180, 0, 19, 31, 16, 8, 29, 104, 123]
abbrev dktX6_putBytes_0 : List UInt8 := dkwX6_putBytes_0 ++ dktX6_putBytes_1
theorem dksX6_putBytes_0 : cX6_putBytes.data.toList.drop 0 = dktX6_putBytes_0 := by decide +kernel
theorem dksX6_putBytes_1 : cX6_putBytes.data.toList.drop 22 = dktX6_putBytes_1 := dk_seg dksX6_putBytes_0 22 rfl rfl
theorem dX6_putBytes_0 : decode cX6_putBytes 0 = .ok (.lload_n 1, 1) := dk_31 (dk_at dksX6_putBytes_0 0 rfl rfl)
theorem dX6_putBytes_1 : decode cX6_putBytes 1 = .ok (.bipush 32, 2) := dk_16 32 (dk_at dksX6_putBytes_0 1 rfl rfl)
theorem dX6_putBytes_3 : decode cX6_putBytes 3 = .ok (.lshr, 1) := dk_123 (dk_at dksX6_putBytes_0 3 rfl rfl)
theorem dX6_putBytes_4 : decode cX6_putBytes 4 = .ok (.l2i, 1) := dk_136 (dk_at dksX6_putBytes_0 4 rfl rfl)
theorem dX6_putBytes_5 : decode cX6_putBytes 5 = .ok (.iconst 1, 1) := dk_4 (dk_at dksX6_putBytes_0 5 rfl rfl)
theorem dX6_putBytes_6 : decode cX6_putBytes 6 = .ok (.isub, 1) := dk_100 (dk_at dksX6_putBytes_0 6 rfl rfl)
theorem dX6_putBytes_7 : decode cX6_putBytes 7 = .ok (.istore_n 3, 1) := dk_62 (dk_at dksX6_putBytes_0 7 rfl rfl)
theorem dX6_putBytes_8 : decode cX6_putBytes 8 = .ok (.iload_n 3, 1) := dk_29 (dk_at dksX6_putBytes_0 8 rfl rfl)
theorem dX6_putBytes_9 : decode cX6_putBytes 9 = .ok (.ifCond .lt 29, 3) := dk_155 0 29 (dk_at dksX6_putBytes_0 9 rfl rfl)
theorem dX6_putBytes_12 : decode cX6_putBytes 12 = .ok (.aload_n 0, 1) := dk_42 (dk_at dksX6_putBytes_0 12 rfl rfl)
theorem dX6_putBytes_13 : decode cX6_putBytes 13 = .ok (.getfield 19, 3) := dk_180 0 19 (dk_at dksX6_putBytes_0 13 rfl rfl)
theorem dX6_putBytes_16 : decode cX6_putBytes 16 = .ok (.lload_n 1, 1) := dk_31 (dk_at dksX6_putBytes_0 16 rfl rfl)
theorem dX6_putBytes_17 : decode cX6_putBytes 17 = .ok (.bipush 8, 2) := dk_16 8 (dk_at dksX6_putBytes_0 17 rfl rfl)
theorem dX6_putBytes_19 : decode cX6_putBytes 19 = .ok (.iload_n 3, 1) := dk_29 (dk_at dksX6_putBytes_0 19 rfl rfl)
theorem dX6_putBytes_20 : decode cX6_putBytes 20 = .ok (.imul, 1) := dk_104 (dk_at dksX6_putBytes_0 20 rfl rfl)
theorem dX6_putBytes_21 : decode cX6_putBytes 21 = .ok (.lshr, 1) := dk_123 (dk_at dksX6_putBytes_0 21 rfl rfl)
theorem dX6_putBytes_22 : decode cX6_putBytes 22 = .ok (.ldc2_w 23, 3) := dk_20 0 23 (dk_at dksX6_putBytes_1 0 rfl rfl)
theorem dX6_putBytes_25 : decode cX6_putBytes 25 = .ok (.land, 1) := dk_127 (dk_at dksX6_putBytes_1 3 rfl rfl)
theorem dX6_putBytes_26 : decode cX6_putBytes 26 = .ok (.l2i, 1) := dk_136 (dk_at dksX6_putBytes_1 4 rfl rfl)
theorem dX6_putBytes_27 : decode cX6_putBytes 27 = .ok (.invokeinterface 25 2, 5) := by decide +kernel
theorem dX6_putBytes_32 : decode cX6_putBytes 32 = .ok (.iinc 3 (-1), 3) := dk_132 3 255 (dk_at dksX6_putBytes_1 10 rfl rfl)
theorem dX6_putBytes_35 : decode cX6_putBytes 35 = .ok (.goto (-27), 3) := dk_167 255 229 (dk_at dksX6_putBytes_1 13 rfl rfl)
theorem dX6_putBytes_38 : decode cX6_putBytes 38 = .ok (.return_, 1) := dk_177 (dk_at dksX6_putBytes_1 16 rfl rfl)
abbrev cX6_expand : ByteArray := prog_15_method_4_code
def yX6_expand : MethodName := ⟨RX6, "expand", "(I)Z"⟩
def dkwX6_expand_4 : List UInt8 := [172]
abbrev dktX6_expand_4 : List UInt8 := dkwX6_expand_4 ++ []
def dkwX6_expand_3 : List UInt8 := [180, 0, 67, 7, 28, 104, 29, 96, 46, 182, 0, 70, 154, 0, 5, 3, 172, 132, 3, 1, 167, 255, 218, 4]
abbrev dktX6_expand_3 : List UInt8 := dkwX6_expand_3 ++ dktX6_expand_4
def dkwX6_expand_2 : List UInt8 := [3, 172, 3, 62, 29, 42, 180, 0, 3, 180, 0, 64, 28, 46, 162, 0, 31, 42, 42, 180, 0, 3]
abbrev dktX6_expand_2 : List UInt8 := dkwX6_expand_2 ++ dktX6_expand_3
def dkwX6_expand_1 : List UInt8 := [89, 180, 0, 57, 4, 96, 181, 0, 57, 4, 172, 42, 180, 0, 3, 27, 182, 0, 60, 61, 28, 156, 0, 5]
abbrev dktX6_expand_1 : List UInt8 := dkwX6_expand_1 ++ dktX6_expand_2
def dkwX6_expand_0 : List UInt8 := [42, 180, 0, 31, 27, 182, 0, 53, 9, 148, 155, 0, 25, 42, 180, 0, 15, 42, 180, 0, 57, 27, 79, 42]
abbrev dktX6_expand_0 : List UInt8 := dkwX6_expand_0 ++ dktX6_expand_1
theorem dksX6_expand_0 : cX6_expand.data.toList.drop 0 = dktX6_expand_0 := by decide +kernel
theorem dksX6_expand_1 : cX6_expand.data.toList.drop 24 = dktX6_expand_1 := dk_seg dksX6_expand_0 24 rfl rfl
theorem dksX6_expand_2 : cX6_expand.data.toList.drop 48 = dktX6_expand_2 := dk_seg dksX6_expand_1 24 rfl rfl
theorem dksX6_expand_3 : cX6_expand.data.toList.drop 70 = dktX6_expand_3 := dk_seg dksX6_expand_2 22 rfl rfl
theorem dksX6_expand_4 : cX6_expand.data.toList.drop 94 = dktX6_expand_4 := dk_seg dksX6_expand_3 24 rfl rfl
theorem dX6_expand_0 : decode cX6_expand 0 = .ok (.aload_n 0, 1) := dk_42 (dk_at dksX6_expand_0 0 rfl rfl)
theorem dX6_expand_1 : decode cX6_expand 1 = .ok (.getfield 31, 3) := dk_180 0 31 (dk_at dksX6_expand_0 1 rfl rfl)
theorem dX6_expand_4 : decode cX6_expand 4 = .ok (.iload_n 1, 1) := dk_27 (dk_at dksX6_expand_0 4 rfl rfl)
theorem dX6_expand_5 : decode cX6_expand 5 = .ok (.invokevirtual 53, 3) := dk_182 0 53 (dk_at dksX6_expand_0 5 rfl rfl)
theorem dX6_expand_8 : decode cX6_expand 8 = .ok (.lconst 0, 1) := dk_9 (dk_at dksX6_expand_0 8 rfl rfl)
theorem dX6_expand_9 : decode cX6_expand 9 = .ok (.lcmp, 1) := dk_148 (dk_at dksX6_expand_0 9 rfl rfl)
theorem dX6_expand_10 : decode cX6_expand 10 = .ok (.ifCond .lt 25, 3) := dk_155 0 25 (dk_at dksX6_expand_0 10 rfl rfl)
theorem dX6_expand_13 : decode cX6_expand 13 = .ok (.aload_n 0, 1) := dk_42 (dk_at dksX6_expand_0 13 rfl rfl)
theorem dX6_expand_14 : decode cX6_expand 14 = .ok (.getfield 15, 3) := dk_180 0 15 (dk_at dksX6_expand_0 14 rfl rfl)
theorem dX6_expand_17 : decode cX6_expand 17 = .ok (.aload_n 0, 1) := dk_42 (dk_at dksX6_expand_0 17 rfl rfl)
theorem dX6_expand_18 : decode cX6_expand 18 = .ok (.getfield 57, 3) := dk_180 0 57 (dk_at dksX6_expand_0 18 rfl rfl)
theorem dX6_expand_21 : decode cX6_expand 21 = .ok (.iload_n 1, 1) := dk_27 (dk_at dksX6_expand_0 21 rfl rfl)
theorem dX6_expand_22 : decode cX6_expand 22 = .ok (.iastore, 1) := dk_79 (dk_at dksX6_expand_0 22 rfl rfl)
theorem dX6_expand_23 : decode cX6_expand 23 = .ok (.aload_n 0, 1) := dk_42 (dk_at dksX6_expand_0 23 rfl rfl)
theorem dX6_expand_24 : decode cX6_expand 24 = .ok (.dup, 1) := dk_89 (dk_at dksX6_expand_1 0 rfl rfl)
theorem dX6_expand_25 : decode cX6_expand 25 = .ok (.getfield 57, 3) := dk_180 0 57 (dk_at dksX6_expand_1 1 rfl rfl)
theorem dX6_expand_28 : decode cX6_expand 28 = .ok (.iconst 1, 1) := dk_4 (dk_at dksX6_expand_1 4 rfl rfl)
theorem dX6_expand_29 : decode cX6_expand 29 = .ok (.iadd, 1) := dk_96 (dk_at dksX6_expand_1 5 rfl rfl)
theorem dX6_expand_30 : decode cX6_expand 30 = .ok (.putfield 57, 3) := dk_181 0 57 (dk_at dksX6_expand_1 6 rfl rfl)
theorem dX6_expand_33 : decode cX6_expand 33 = .ok (.iconst 1, 1) := dk_4 (dk_at dksX6_expand_1 9 rfl rfl)
theorem dX6_expand_34 : decode cX6_expand 34 = .ok (.ireturn, 1) := dk_172 (dk_at dksX6_expand_1 10 rfl rfl)
theorem dX6_expand_35 : decode cX6_expand 35 = .ok (.aload_n 0, 1) := dk_42 (dk_at dksX6_expand_1 11 rfl rfl)
theorem dX6_expand_36 : decode cX6_expand 36 = .ok (.getfield 3, 3) := dk_180 0 3 (dk_at dksX6_expand_1 12 rfl rfl)
theorem dX6_expand_39 : decode cX6_expand 39 = .ok (.iload_n 1, 1) := dk_27 (dk_at dksX6_expand_1 15 rfl rfl)
theorem dX6_expand_40 : decode cX6_expand 40 = .ok (.invokevirtual 60, 3) := dk_182 0 60 (dk_at dksX6_expand_1 16 rfl rfl)
theorem dX6_expand_43 : decode cX6_expand 43 = .ok (.istore_n 2, 1) := dk_61 (dk_at dksX6_expand_1 19 rfl rfl)
theorem dX6_expand_44 : decode cX6_expand 44 = .ok (.iload_n 2, 1) := dk_28 (dk_at dksX6_expand_1 20 rfl rfl)
theorem dX6_expand_45 : decode cX6_expand 45 = .ok (.ifCond .ge 5, 3) := dk_156 0 5 (dk_at dksX6_expand_1 21 rfl rfl)
theorem dX6_expand_48 : decode cX6_expand 48 = .ok (.iconst 0, 1) := dk_3 (dk_at dksX6_expand_2 0 rfl rfl)
theorem dX6_expand_49 : decode cX6_expand 49 = .ok (.ireturn, 1) := dk_172 (dk_at dksX6_expand_2 1 rfl rfl)
theorem dX6_expand_50 : decode cX6_expand 50 = .ok (.iconst 0, 1) := dk_3 (dk_at dksX6_expand_2 2 rfl rfl)
theorem dX6_expand_51 : decode cX6_expand 51 = .ok (.istore_n 3, 1) := dk_62 (dk_at dksX6_expand_2 3 rfl rfl)
theorem dX6_expand_52 : decode cX6_expand 52 = .ok (.iload_n 3, 1) := dk_29 (dk_at dksX6_expand_2 4 rfl rfl)
theorem dX6_expand_53 : decode cX6_expand 53 = .ok (.aload_n 0, 1) := dk_42 (dk_at dksX6_expand_2 5 rfl rfl)
theorem dX6_expand_54 : decode cX6_expand 54 = .ok (.getfield 3, 3) := dk_180 0 3 (dk_at dksX6_expand_2 6 rfl rfl)
theorem dX6_expand_57 : decode cX6_expand 57 = .ok (.getfield 64, 3) := dk_180 0 64 (dk_at dksX6_expand_2 9 rfl rfl)
theorem dX6_expand_60 : decode cX6_expand 60 = .ok (.iload_n 2, 1) := dk_28 (dk_at dksX6_expand_2 12 rfl rfl)
theorem dX6_expand_61 : decode cX6_expand 61 = .ok (.iaload, 1) := dk_46 (dk_at dksX6_expand_2 13 rfl rfl)
theorem dX6_expand_62 : decode cX6_expand 62 = .ok (.if_icmp .ge 31, 3) := dk_162 0 31 (dk_at dksX6_expand_2 14 rfl rfl)
theorem dX6_expand_65 : decode cX6_expand 65 = .ok (.aload_n 0, 1) := dk_42 (dk_at dksX6_expand_2 17 rfl rfl)
theorem dX6_expand_66 : decode cX6_expand 66 = .ok (.aload_n 0, 1) := dk_42 (dk_at dksX6_expand_2 18 rfl rfl)
theorem dX6_expand_67 : decode cX6_expand 67 = .ok (.getfield 3, 3) := dk_180 0 3 (dk_at dksX6_expand_2 19 rfl rfl)
theorem dX6_expand_70 : decode cX6_expand 70 = .ok (.getfield 67, 3) := dk_180 0 67 (dk_at dksX6_expand_3 0 rfl rfl)
theorem dX6_expand_73 : decode cX6_expand 73 = .ok (.iconst 4, 1) := dk_7 (dk_at dksX6_expand_3 3 rfl rfl)
theorem dX6_expand_74 : decode cX6_expand 74 = .ok (.iload_n 2, 1) := dk_28 (dk_at dksX6_expand_3 4 rfl rfl)
theorem dX6_expand_75 : decode cX6_expand 75 = .ok (.imul, 1) := dk_104 (dk_at dksX6_expand_3 5 rfl rfl)
theorem dX6_expand_76 : decode cX6_expand 76 = .ok (.iload_n 3, 1) := dk_29 (dk_at dksX6_expand_3 6 rfl rfl)
theorem dX6_expand_77 : decode cX6_expand 77 = .ok (.iadd, 1) := dk_96 (dk_at dksX6_expand_3 7 rfl rfl)
theorem dX6_expand_78 : decode cX6_expand 78 = .ok (.iaload, 1) := dk_46 (dk_at dksX6_expand_3 8 rfl rfl)
theorem dX6_expand_79 : decode cX6_expand 79 = .ok (.invokevirtual 70, 3) := dk_182 0 70 (dk_at dksX6_expand_3 9 rfl rfl)
theorem dX6_expand_82 : decode cX6_expand 82 = .ok (.ifCond .ne 5, 3) := dk_154 0 5 (dk_at dksX6_expand_3 12 rfl rfl)
theorem dX6_expand_85 : decode cX6_expand 85 = .ok (.iconst 0, 1) := dk_3 (dk_at dksX6_expand_3 15 rfl rfl)
theorem dX6_expand_86 : decode cX6_expand 86 = .ok (.ireturn, 1) := dk_172 (dk_at dksX6_expand_3 16 rfl rfl)
theorem dX6_expand_87 : decode cX6_expand 87 = .ok (.iinc 3 1, 3) := dk_132 3 1 (dk_at dksX6_expand_3 17 rfl rfl)
theorem dX6_expand_90 : decode cX6_expand 90 = .ok (.goto (-38), 3) := dk_167 255 218 (dk_at dksX6_expand_3 20 rfl rfl)
theorem dX6_expand_93 : decode cX6_expand 93 = .ok (.iconst 1, 1) := dk_4 (dk_at dksX6_expand_3 23 rfl rfl)
theorem dX6_expand_94 : decode cX6_expand 94 = .ok (.ireturn, 1) := dk_172 (dk_at dksX6_expand_4 0 rfl rfl)
abbrev cX6_last : ByteArray := prog_15_method_7_code
def yX6_last : MethodName := ⟨RX6, "last", "()V"⟩
def dkwX6_last_1 : List UInt8 := [180, 0, 31, 42, 180, 0, 35, 182, 0, 115, 182, 0, 45, 42, 3, 181, 0, 35, 177]
abbrev dktX6_last_1 : List UInt8 := dkwX6_last_1 ++ []
def dkwX6_last_0 : List UInt8 := [42, 180, 0, 96, 4, 160, 0, 17, 42, 3, 181, 0, 96, 42, 42, 180, 0, 102, 4, 182, 0, 108, 42, 42]
abbrev dktX6_last_0 : List UInt8 := dkwX6_last_0 ++ dktX6_last_1
theorem dksX6_last_0 : cX6_last.data.toList.drop 0 = dktX6_last_0 := by decide +kernel
theorem dksX6_last_1 : cX6_last.data.toList.drop 24 = dktX6_last_1 := dk_seg dksX6_last_0 24 rfl rfl
theorem dX6_last_0 : decode cX6_last 0 = .ok (.aload_n 0, 1) := dk_42 (dk_at dksX6_last_0 0 rfl rfl)
theorem dX6_last_1 : decode cX6_last 1 = .ok (.getfield 96, 3) := dk_180 0 96 (dk_at dksX6_last_0 1 rfl rfl)
theorem dX6_last_4 : decode cX6_last 4 = .ok (.iconst 1, 1) := dk_4 (dk_at dksX6_last_0 4 rfl rfl)
theorem dX6_last_5 : decode cX6_last 5 = .ok (.if_icmp .ne 17, 3) := dk_160 0 17 (dk_at dksX6_last_0 5 rfl rfl)
theorem dX6_last_8 : decode cX6_last 8 = .ok (.aload_n 0, 1) := dk_42 (dk_at dksX6_last_0 8 rfl rfl)
theorem dX6_last_9 : decode cX6_last 9 = .ok (.iconst 0, 1) := dk_3 (dk_at dksX6_last_0 9 rfl rfl)
theorem dX6_last_10 : decode cX6_last 10 = .ok (.putfield 96, 3) := dk_181 0 96 (dk_at dksX6_last_0 10 rfl rfl)
theorem dX6_last_13 : decode cX6_last 13 = .ok (.aload_n 0, 1) := dk_42 (dk_at dksX6_last_0 13 rfl rfl)
theorem dX6_last_14 : decode cX6_last 14 = .ok (.aload_n 0, 1) := dk_42 (dk_at dksX6_last_0 14 rfl rfl)
theorem dX6_last_15 : decode cX6_last 15 = .ok (.getfield 102, 3) := dk_180 0 102 (dk_at dksX6_last_0 15 rfl rfl)
theorem dX6_last_18 : decode cX6_last 18 = .ok (.iconst 1, 1) := dk_4 (dk_at dksX6_last_0 18 rfl rfl)
theorem dX6_last_19 : decode cX6_last 19 = .ok (.invokevirtual 108, 3) := dk_182 0 108 (dk_at dksX6_last_0 19 rfl rfl)
theorem dX6_last_22 : decode cX6_last 22 = .ok (.aload_n 0, 1) := dk_42 (dk_at dksX6_last_0 22 rfl rfl)
theorem dX6_last_23 : decode cX6_last 23 = .ok (.aload_n 0, 1) := dk_42 (dk_at dksX6_last_0 23 rfl rfl)
theorem dX6_last_24 : decode cX6_last 24 = .ok (.getfield 31, 3) := dk_180 0 31 (dk_at dksX6_last_1 0 rfl rfl)
theorem dX6_last_27 : decode cX6_last 27 = .ok (.aload_n 0, 1) := dk_42 (dk_at dksX6_last_1 3 rfl rfl)
theorem dX6_last_28 : decode cX6_last 28 = .ok (.getfield 35, 3) := dk_180 0 35 (dk_at dksX6_last_1 4 rfl rfl)
theorem dX6_last_31 : decode cX6_last 31 = .ok (.invokevirtual 115, 3) := dk_182 0 115 (dk_at dksX6_last_1 7 rfl rfl)
theorem dX6_last_34 : decode cX6_last 34 = .ok (.invokevirtual 45, 3) := dk_182 0 45 (dk_at dksX6_last_1 10 rfl rfl)
theorem dX6_last_37 : decode cX6_last 37 = .ok (.aload_n 0, 1) := dk_42 (dk_at dksX6_last_1 13 rfl rfl)
theorem dX6_last_38 : decode cX6_last 38 = .ok (.iconst 0, 1) := dk_3 (dk_at dksX6_last_1 14 rfl rfl)
theorem dX6_last_39 : decode cX6_last 39 = .ok (.putfield 35, 3) := dk_181 0 35 (dk_at dksX6_last_1 15 rfl rfl)
theorem dX6_last_42 : decode cX6_last 42 = .ok (.return_, 1) := dk_177 (dk_at dksX6_last_1 18 rfl rfl)
theorem q106 : (Jvm.Cond.initialized "CodeExchange$Writer") ∈ lw_all := lw_g (lw_at lw_m1 10 rfl) rfl
theorem q352 : (Jvm.Cond.fieldLink "CodeExchange$Writer" (19 : Nat) "CodeExchange$Writer" "sink" "LCodeExchange$Sink;") ∈ lw_all := lw_g (lw_at lw_m2 16 rfl) rfl
theorem q353 : (Jvm.Cond.sameField "CodeExchange$Writer" "CodeExchange$Machine" "sink" "LCodeExchange$Sink;") ∈ lw_all := lw_g (lw_at lw_m2 17 rfl) rfl
theorem q357 : (Jvm.Cond.fieldLink "CodeExchange$Writer" (31 : Nat) "CodeExchange$Writer" "page" "LCodeExchange$Page;") ∈ lw_all := lw_g (lw_at lw_m2 21 rfl) rfl
theorem q358 : (Jvm.Cond.sameField "CodeExchange$Writer" "CodeExchange$Machine" "page" "LCodeExchange$Page;") ∈ lw_all := lw_g (lw_at lw_m2 22 rfl) rfl
theorem q362 : (Jvm.Cond.fieldLink "CodeExchange$Writer" (80 : Nat) "CodeExchange$Writer" "rule" "I") ∈ lw_all := lw_g (lw_at lw_m2 26 rfl) rfl
theorem q363 : (Jvm.Cond.sameField "CodeExchange$Writer" "CodeExchange$Machine" "rule" "I") ∈ lw_all := lw_g (lw_at lw_m2 27 rfl) rfl
theorem q370 : (Jvm.Cond.fieldLink "CodeExchange$Writer" (35 : Nat) "CodeExchange$Writer" "state" "I") ∈ lw_all := lw_g (lw_at lw_m2 34 rfl) rfl
theorem q371 : (Jvm.Cond.sameField "CodeExchange$Writer" "CodeExchange$Machine" "state" "I") ∈ lw_all := lw_g (lw_at lw_m2 35 rfl) rfl
theorem q383 : (Jvm.Cond.fieldLink "CodeExchange$Writer" (96 : Nat) "CodeExchange$Writer" "kept" "I") ∈ lw_all := lw_g (lw_at lw_m2 47 rfl) rfl
theorem q384 : (Jvm.Cond.sameField "CodeExchange$Writer" "CodeExchange$Machine" "kept" "I") ∈ lw_all := lw_g (lw_at lw_m2 48 rfl) rfl
theorem q421 : (Jvm.Cond.instantiable "CodeExchange$Writer" (16 : Nat)) ∈ lw_all := lw_g (lw_at lw_m2 85 rfl) rfl
theorem q423 : (Jvm.Cond.instanceMethod ({ cls := "CodeExchange$Writer", name := "<init>", desc := "(LCodeExchange;)V" } : Jvm.MethodName)) ∈ lw_all := lw_g (lw_at lw_m2 87 rfl) rfl
theorem q424 : (Jvm.Cond.code ({ cls := "CodeExchange$Writer", name := "<init>", desc := "(LCodeExchange;)V" } : Jvm.MethodName) prog_15_method_1_code (2 : Nat) (Option.none : Option Jvm.ClassFile.FieldType)) ∈ lw_all := lw_g (lw_at lw_m2 88 rfl) rfl
theorem q425 : (Jvm.Cond.methodLinkNest "CodeExchange$Writer" (9 : Nat) ({ cls := "CodeExchange$Machine", name := "<init>", desc := "(LCodeExchange;)V" } : Jvm.MethodName) "CodeExchange") ∈ lw_tbl := lw_at lw_m2 89 rfl
theorem q426 : (Jvm.Cond.fieldLink "CodeExchange$Writer" (102 : Nat) "CodeExchange$Writer" "half" "I") ∈ lw_all := lw_g (lw_at lw_m2 90 rfl) rfl
theorem q427 : (Jvm.Cond.fieldLink "CodeExchange$Writer" (15 : Nat) "CodeExchange$Writer" "points" "[I") ∈ lw_all := lw_g (lw_at lw_m2 91 rfl) rfl
theorem q428 : (Jvm.Cond.fieldLink "CodeExchange$Writer" (57 : Nat) "CodeExchange$Writer" "pointMany" "I") ∈ lw_all := lw_g (lw_at lw_m2 92 rfl) rfl
theorem q429 : (Jvm.Cond.fieldLink "CodeExchange$Writer" (3 : Nat) "CodeExchange$Writer" "this$0" "LCodeExchange;") ∈ lw_all := lw_g (lw_at lw_m2 93 rfl) rfl
theorem q430 : (Jvm.Cond.lays "CodeExchange$Writer" "CodeExchange$Writer" "half" "I") ∈ lw_all := lw_g (lw_at lw_m2 94 rfl) rfl
theorem q431 : (Jvm.Cond.soleField "CodeExchange$Writer" "half") ∈ lw_all := lw_g (lw_at lw_m2 95 rfl) rfl
theorem q432 : (Jvm.Cond.laysFinal "CodeExchange$Writer" "CodeExchange$Writer" "points" "[I") ∈ lw_all := lw_g (lw_at lw_m2 96 rfl) rfl
theorem q433 : (Jvm.Cond.soleField "CodeExchange$Writer" "points") ∈ lw_all := lw_g (lw_at lw_m2 97 rfl) rfl
theorem q434 : (Jvm.Cond.lays "CodeExchange$Writer" "CodeExchange$Writer" "pointMany" "I") ∈ lw_all := lw_g (lw_at lw_m2 98 rfl) rfl
theorem q435 : (Jvm.Cond.soleField "CodeExchange$Writer" "pointMany") ∈ lw_all := lw_g (lw_at lw_m2 99 rfl) rfl
theorem q436 : (Jvm.Cond.laysFinal "CodeExchange$Writer" "CodeExchange$Writer" "this$0" "LCodeExchange;") ∈ lw_all := lw_g (lw_at lw_m2 100 rfl) rfl
theorem q437 : (Jvm.Cond.soleField "CodeExchange$Writer" "this$0") ∈ lw_all := lw_g (lw_at lw_m2 101 rfl) rfl
theorem q438 : (Jvm.Cond.laysFinal "CodeExchange$Writer" "CodeExchange$Machine" "queue" "[I") ∈ lw_all := lw_g (lw_at lw_m2 102 rfl) rfl
theorem q439 : (Jvm.Cond.lays "CodeExchange$Writer" "CodeExchange$Machine" "sink" "LCodeExchange$Sink;") ∈ lw_all := lw_g (lw_at lw_m2 103 rfl) rfl
theorem q440 : (Jvm.Cond.lays "CodeExchange$Writer" "CodeExchange$Machine" "page" "LCodeExchange$Page;") ∈ lw_all := lw_g (lw_at lw_m2 104 rfl) rfl
theorem q441 : (Jvm.Cond.lays "CodeExchange$Writer" "CodeExchange$Machine" "rule" "I") ∈ lw_all := lw_g (lw_at lw_m2 105 rfl) rfl
theorem q442 : (Jvm.Cond.lays "CodeExchange$Writer" "CodeExchange$Machine" "first" "I") ∈ lw_all := lw_g (lw_at lw_m2 106 rfl) rfl
theorem q443 : (Jvm.Cond.lays "CodeExchange$Writer" "CodeExchange$Machine" "many" "I") ∈ lw_all := lw_g (lw_at lw_m2 107 rfl) rfl
theorem q444 : (Jvm.Cond.lays "CodeExchange$Writer" "CodeExchange$Machine" "state" "I") ∈ lw_all := lw_g (lw_at lw_m2 108 rfl) rfl
theorem q445 : (Jvm.Cond.lays "CodeExchange$Writer" "CodeExchange$Machine" "pending" "I") ∈ lw_all := lw_g (lw_at lw_m2 109 rfl) rfl
theorem q446 : (Jvm.Cond.lays "CodeExchange$Writer" "CodeExchange$Machine" "kept" "I") ∈ lw_all := lw_g (lw_at lw_m2 110 rfl) rfl
theorem q447 : (Jvm.Cond.lays "CodeExchange$Writer" "CodeExchange$Machine" "fed" "I") ∈ lw_all := lw_g (lw_at lw_m2 111 rfl) rfl
theorem q448 : (Jvm.Cond.lays "CodeExchange$Writer" "CodeExchange$Machine" "how" "I") ∈ lw_all := lw_g (lw_at lw_m2 112 rfl) rfl
theorem q449 : (Jvm.Cond.laysFinal "CodeExchange$Writer" "CodeExchange$Machine" "this$0" "LCodeExchange;") ∈ lw_all := lw_g (lw_at lw_m2 113 rfl) rfl
theorem q450 : (Jvm.Cond.superclass "CodeExchange$Writer" "CodeExchange$Machine") ∈ lw_all := lw_g (lw_at lw_m2 114 rfl) rfl
theorem q489 : (Jvm.Cond.fieldLinkNest "CodeExchange$Writer" (93 : Nat) "CodeExchange" "signs" "[I" "CodeExchange") ∈ lw_tbl := lw_at lw_m2 153 rfl
theorem q494 : (Jvm.Cond.fieldLinkNest "CodeExchange$Writer" (64 : Nat) "CodeExchange" "fallMany" "[I" "CodeExchange") ∈ lw_tbl := lw_at lw_m2 158 rfl
theorem q496 : (Jvm.Cond.fieldLinkNest "CodeExchange$Writer" (67 : Nat) "CodeExchange" "fallText" "[I" "CodeExchange") ∈ lw_tbl := lw_at lw_m2 160 rfl
theorem q966 : (Jvm.Cond.selects "CodeExchange$Writer" ({ cls := "CodeExchange$Machine", name := "begin", desc := "(LCodeExchange$Page;ILCodeExchange$Sink;)V" } : Jvm.MethodName) ({ cls := "CodeExchange$Machine", name := "begin", desc := "(LCodeExchange$Page;ILCodeExchange$Sink;)V" } : Jvm.MethodName)) ∈ lw_all := lw_g (lw_at lw_m4 150 rfl) rfl
theorem q972 : (Jvm.Cond.selects "CodeExchange$Writer" ({ cls := "CodeExchange$Machine", name := "feed", desc := "(I)V" } : Jvm.MethodName) ({ cls := "CodeExchange$Machine", name := "feed", desc := "(I)V" } : Jvm.MethodName)) ∈ lw_all := lw_g (lw_at lw_m4 156 rfl) rfl
theorem q1092 : (Jvm.Cond.castable "CodeExchange$Writer" "CodeExchange$Sink") ∈ lw_tbl := lw_at lw_m5 36 rfl
theorem q1093 : (Jvm.Cond.selects "CodeExchange$Writer" ({ cls := "CodeExchange$Sink", name := "put", desc := "(I)V" } : Jvm.MethodName) ({ cls := "CodeExchange$Machine", name := "put", desc := "(I)V" } : Jvm.MethodName)) ∈ lw_all := lw_g (lw_at lw_m5 37 rfl) rfl
theorem q1094 : (Jvm.Cond.unhidden "CodeExchange$Writer" "put" "(I)V") ∈ lw_tbl := lw_at lw_m5 38 rfl
theorem q1098 : (Jvm.Cond.selects "CodeExchange$Writer" ({ cls := "CodeExchange$Machine", name := "step", desc := "(I)V" } : Jvm.MethodName) ({ cls := "CodeExchange$Writer", name := "step", desc := "(I)V" } : Jvm.MethodName)) ∈ lw_all := lw_g (lw_at lw_m5 42 rfl) rfl
theorem q1099 : (Jvm.Cond.instanceMethod ({ cls := "CodeExchange$Writer", name := "step", desc := "(I)V" } : Jvm.MethodName)) ∈ lw_all := lw_g (lw_at lw_m5 43 rfl) rfl
theorem q1100 : (Jvm.Cond.code ({ cls := "CodeExchange$Writer", name := "step", desc := "(I)V" } : Jvm.MethodName) prog_15_method_6_code (2 : Nat) (Option.none : Option Jvm.ClassFile.FieldType)) ∈ lw_all := lw_g (lw_at lw_m5 44 rfl) rfl
theorem q1101 : (Jvm.Cond.methodLinkNest "CodeExchange$Writer" (99 : Nat) ({ cls := "CodeExchange", name := "isLow", desc := "(I)Z" } : Jvm.MethodName) "CodeExchange") ∈ lw_tbl := lw_at lw_m5 45 rfl
theorem q1102 : (Jvm.Cond.methodLinkNest "CodeExchange$Writer" (105 : Nat) ({ cls := "CodeExchange", name := "paired", desc := "(II)I" } : Jvm.MethodName) "CodeExchange") ∈ lw_tbl := lw_at lw_m5 46 rfl
theorem q1103 : (Jvm.Cond.methodLink "CodeExchange$Writer" (108 : Nat) ({ cls := "CodeExchange$Writer", name := "all", desc := "(II)V" } : Jvm.MethodName)) ∈ lw_all := lw_g (lw_at lw_m5 47 rfl) rfl
theorem q1104 : (Jvm.Cond.privateMethod ({ cls := "CodeExchange$Writer", name := "all", desc := "(II)V" } : Jvm.MethodName)) ∈ lw_tbl := lw_at lw_m5 48 rfl
theorem q1105 : (Jvm.Cond.instanceMethod ({ cls := "CodeExchange$Writer", name := "all", desc := "(II)V" } : Jvm.MethodName)) ∈ lw_all := lw_g (lw_at lw_m5 49 rfl) rfl
theorem q1106 : (Jvm.Cond.code ({ cls := "CodeExchange$Writer", name := "all", desc := "(II)V" } : Jvm.MethodName) prog_15_method_5_code (7 : Nat) (Option.none : Option Jvm.ClassFile.FieldType)) ∈ lw_all := lw_g (lw_at lw_m5 50 rfl) rfl
theorem q1107 : (Jvm.Cond.methodLinkNest "CodeExchange$Writer" (74 : Nat) ({ cls := "CodeExchange", name := "isPoint", desc := "(I)Z" } : Jvm.MethodName) "CodeExchange") ∈ lw_tbl := lw_at lw_m5 51 rfl
theorem q1108 : (Jvm.Cond.methodLink "CodeExchange$Writer" (53 : Nat) ({ cls := "CodeExchange$Page", name := "code", desc := "(I)J" } : Jvm.MethodName)) ∈ lw_all := lw_g (lw_at lw_m5 52 rfl) rfl
theorem q1109 : (Jvm.Cond.methodLink "CodeExchange$Writer" (77 : Nat) ({ cls := "CodeExchange$Writer", name := "write", desc := "(I)V" } : Jvm.MethodName)) ∈ lw_all := lw_g (lw_at lw_m5 53 rfl) rfl
theorem q1110 : (Jvm.Cond.privateMethod ({ cls := "CodeExchange$Writer", name := "write", desc := "(I)V" } : Jvm.MethodName)) ∈ lw_tbl := lw_at lw_m5 54 rfl
theorem q1111 : (Jvm.Cond.instanceMethod ({ cls := "CodeExchange$Writer", name := "write", desc := "(I)V" } : Jvm.MethodName)) ∈ lw_all := lw_g (lw_at lw_m5 55 rfl) rfl
theorem q1112 : (Jvm.Cond.code ({ cls := "CodeExchange$Writer", name := "write", desc := "(I)V" } : Jvm.MethodName) prog_15_method_3_code (2 : Nat) (Option.none : Option Jvm.ClassFile.FieldType)) ∈ lw_all := lw_g (lw_at lw_m5 56 rfl) rfl
theorem q1113 : (Jvm.Cond.methodLink "CodeExchange$Writer" (39 : Nat) ({ cls := "CodeExchange$Page", name := "way", desc := "(II)J" } : Jvm.MethodName)) ∈ lw_all := lw_g (lw_at lw_m5 57 rfl) rfl
theorem q1123 : (Jvm.Cond.methodLink "CodeExchange$Writer" (45 : Nat) ({ cls := "CodeExchange$Writer", name := "putBytes", desc := "(J)V" } : Jvm.MethodName)) ∈ lw_all := lw_g (lw_at lw_m5 67 rfl) rfl
theorem q1124 : (Jvm.Cond.privateMethod ({ cls := "CodeExchange$Writer", name := "putBytes", desc := "(J)V" } : Jvm.MethodName)) ∈ lw_tbl := lw_at lw_m5 68 rfl
theorem q1125 : (Jvm.Cond.instanceMethod ({ cls := "CodeExchange$Writer", name := "putBytes", desc := "(J)V" } : Jvm.MethodName)) ∈ lw_all := lw_g (lw_at lw_m5 69 rfl) rfl
theorem q1126 : (Jvm.Cond.code ({ cls := "CodeExchange$Writer", name := "putBytes", desc := "(J)V" } : Jvm.MethodName) prog_15_method_2_code (4 : Nat) (Option.none : Option Jvm.ClassFile.FieldType)) ∈ lw_all := lw_g (lw_at lw_m5 70 rfl) rfl
theorem q1127 : (Jvm.Cond.constantLong "CodeExchange$Writer" (23 : Nat) (255 : Int64)) ∈ lw_all := lw_g (lw_at lw_m5 71 rfl) rfl
theorem q1128 : (Jvm.Cond.interfaceEntry "CodeExchange$Writer" (25 : Nat)) ∈ lw_tbl := lw_at lw_m5 72 rfl
theorem q1129 : (Jvm.Cond.methodLink "CodeExchange$Writer" (25 : Nat) ({ cls := "CodeExchange$Sink", name := "put", desc := "(I)V" } : Jvm.MethodName)) ∈ lw_all := lw_g (lw_at lw_m5 73 rfl) rfl
theorem q1130 : (Jvm.Cond.methodLink "CodeExchange$Writer" (49 : Nat) ({ cls := "CodeExchange$Page", name := "behind", desc := "(II)I" } : Jvm.MethodName)) ∈ lw_all := lw_g (lw_at lw_m5 74 rfl) rfl
theorem q1140 : (Jvm.Cond.methodLink "CodeExchange$Writer" (70 : Nat) ({ cls := "CodeExchange$Writer", name := "expand", desc := "(I)Z" } : Jvm.MethodName)) ∈ lw_all := lw_g (lw_at lw_m5 84 rfl) rfl
theorem q1141 : (Jvm.Cond.privateMethod ({ cls := "CodeExchange$Writer", name := "expand", desc := "(I)Z" } : Jvm.MethodName)) ∈ lw_tbl := lw_at lw_m5 85 rfl
theorem q1142 : (Jvm.Cond.instanceMethod ({ cls := "CodeExchange$Writer", name := "expand", desc := "(I)Z" } : Jvm.MethodName)) ∈ lw_all := lw_g (lw_at lw_m5 86 rfl) rfl
theorem q1143 : (Jvm.Cond.code ({ cls := "CodeExchange$Writer", name := "expand", desc := "(I)Z" } : Jvm.MethodName) prog_15_method_4_code (4 : Nat) (Option.some Jvm.ClassFile.FieldType.boolean)) ∈ lw_all := lw_g (lw_at lw_m5 87 rfl) rfl
theorem q1144 : (Jvm.Cond.methodLinkNest "CodeExchange$Writer" (60 : Nat) ({ cls := "CodeExchange", name := "fallbackOf", desc := "(I)I" } : Jvm.MethodName) "CodeExchange") ∈ lw_tbl := lw_at lw_m5 88 rfl
theorem q1148 : (Jvm.Cond.constant "CodeExchange$Writer" (83 : Nat) (56320 : Int32)) ∈ lw_all := lw_g (lw_at lw_m5 92 rfl) rfl
theorem q1149 : (Jvm.Cond.constant "CodeExchange$Writer" (84 : Nat) (56575 : Int32)) ∈ lw_all := lw_g (lw_at lw_m5 93 rfl) rfl
theorem q1150 : (Jvm.Cond.methodLinkNest "CodeExchange$Writer" (85 : Nat) ({ cls := "CodeExchange", name := "in", desc := "(III)Z" } : Jvm.MethodName) "CodeExchange") ∈ lw_tbl := lw_at lw_m5 94 rfl
theorem q1151 : (Jvm.Cond.methodLink "CodeExchange$Writer" (89 : Nat) ({ cls := "CodeExchange$Writer", name := "ends", desc := "(II)LCodeExchange$Refusal;" } : Jvm.MethodName)) ∈ lw_all := lw_g (lw_at lw_m5 95 rfl) rfl
theorem q1152 : (Jvm.Cond.sameMethod "CodeExchange$Writer" "CodeExchange$Machine" "ends" "(II)LCodeExchange$Refusal;") ∈ lw_all := lw_g (lw_at lw_m5 96 rfl) rfl
theorem q1153 : (Jvm.Cond.selects "CodeExchange$Writer" ({ cls := "CodeExchange$Writer", name := "ends", desc := "(II)LCodeExchange$Refusal;" } : Jvm.MethodName) ({ cls := "CodeExchange$Machine", name := "ends", desc := "(II)LCodeExchange$Refusal;" } : Jvm.MethodName)) ∈ lw_all := lw_g (lw_at lw_m5 97 rfl) rfl
theorem q1154 : (Jvm.Cond.methodLinkNest "CodeExchange$Writer" (112 : Nat) ({ cls := "CodeExchange", name := "isHigh", desc := "(I)Z" } : Jvm.MethodName) "CodeExchange") ∈ lw_tbl := lw_at lw_m5 98 rfl
theorem q1159 : (Jvm.Cond.selects "CodeExchange$Writer" ({ cls := "CodeExchange$Machine", name := "end", desc := "()V" } : Jvm.MethodName) ({ cls := "CodeExchange$Machine", name := "end", desc := "()V" } : Jvm.MethodName)) ∈ lw_all := lw_g (lw_at lw_m5 103 rfl) rfl
theorem q1167 : (Jvm.Cond.selects "CodeExchange$Writer" ({ cls := "CodeExchange$Machine", name := "last", desc := "()V" } : Jvm.MethodName) ({ cls := "CodeExchange$Writer", name := "last", desc := "()V" } : Jvm.MethodName)) ∈ lw_all := lw_g (lw_at lw_m5 111 rfl) rfl
theorem q1168 : (Jvm.Cond.instanceMethod ({ cls := "CodeExchange$Writer", name := "last", desc := "()V" } : Jvm.MethodName)) ∈ lw_all := lw_g (lw_at lw_m5 112 rfl) rfl
theorem q1169 : (Jvm.Cond.code ({ cls := "CodeExchange$Writer", name := "last", desc := "()V" } : Jvm.MethodName) prog_15_method_7_code (1 : Nat) (Option.none : Option Jvm.ClassFile.FieldType)) ∈ lw_all := lw_g (lw_at lw_m5 113 rfl) rfl
theorem q1170 : (Jvm.Cond.methodLink "CodeExchange$Writer" (115 : Nat) ({ cls := "CodeExchange$Page", name := "end", desc := "(I)J" } : Jvm.MethodName)) ∈ lw_all := lw_g (lw_at lw_m5 114 rfl) rfl
theorem q1270 : (Jvm.Cond.castable "CodeExchange$Writer" "CodeExchange$Steps") ∈ lw_tbl := lw_at lw_m5 214 rfl
theorem q1271 : (Jvm.Cond.selects "CodeExchange$Writer" ({ cls := "CodeExchange$Steps", name := "waits", desc := "()I" } : Jvm.MethodName) ({ cls := "CodeExchange$Machine", name := "waits", desc := "()I" } : Jvm.MethodName)) ∈ lw_all := lw_g (lw_at lw_m5 215 rfl) rfl
theorem q1272 : (Jvm.Cond.unhidden "CodeExchange$Writer" "waits" "()I") ∈ lw_tbl := lw_at lw_m5 216 rfl
theorem q1273 : (Jvm.Cond.unhidden "CodeExchange$Writer" "isEmpty" "()Z") ∈ lw_tbl := lw_at lw_m5 217 rfl
theorem q1278 : (Jvm.Cond.selects "CodeExchange$Writer" ({ cls := "CodeExchange$Machine", name := "take", desc := "()I" } : Jvm.MethodName) ({ cls := "CodeExchange$Machine", name := "take", desc := "()I" } : Jvm.MethodName)) ∈ lw_all := lw_g (lw_at lw_m5 222 rfl) rfl
theorem q1345 : (Jvm.Cond.sameMethod "CodeExchange$Writer" "CodeExchange$Machine" "begin" "(LCodeExchange$Page;ILCodeExchange$Sink;)V") ∈ lw_all := lw_g (lw_at lw_m6 49 rfl) rfl
theorem q1347 : (Jvm.Cond.selects "CodeExchange$Writer" ({ cls := "CodeExchange$Writer", name := "begin", desc := "(LCodeExchange$Page;ILCodeExchange$Sink;)V" } : Jvm.MethodName) ({ cls := "CodeExchange$Machine", name := "begin", desc := "(LCodeExchange$Page;ILCodeExchange$Sink;)V" } : Jvm.MethodName)) ∈ lw_all := lw_g (lw_at lw_m6 51 rfl) rfl
theorem q1349 : (Jvm.Cond.sameMethod "CodeExchange$Writer" "CodeExchange$Machine" "feed" "(I)V") ∈ lw_all := lw_g (lw_at lw_m6 53 rfl) rfl
theorem q1351 : (Jvm.Cond.selects "CodeExchange$Writer" ({ cls := "CodeExchange$Writer", name := "feed", desc := "(I)V" } : Jvm.MethodName) ({ cls := "CodeExchange$Machine", name := "feed", desc := "(I)V" } : Jvm.MethodName)) ∈ lw_all := lw_g (lw_at lw_m6 55 rfl) rfl
theorem q1353 : (Jvm.Cond.sameMethod "CodeExchange$Writer" "CodeExchange$Machine" "end" "()V") ∈ lw_all := lw_g (lw_at lw_m6 57 rfl) rfl
theorem q1355 : (Jvm.Cond.selects "CodeExchange$Writer" ({ cls := "CodeExchange$Writer", name := "end", desc := "()V" } : Jvm.MethodName) ({ cls := "CodeExchange$Machine", name := "end", desc := "()V" } : Jvm.MethodName)) ∈ lw_all := lw_g (lw_at lw_m6 59 rfl) rfl
theorem q1970 : (Jvm.Cond.castable "CodeExchange$Writer" "CodeExchange$Machine") ∈ lw_tbl := lw_at lw_m8 194 rfl
theorem in_X6 : ∀ w ∈ wsX60, w ∈ lw_all := lw_in wsX60 [438, 439, 440, 441, 442, 443, 444, 445, 446, 447, 448, 449, 430, 432, 434, 436] (by decide +kernel) (by decide +kernel)
/-! CodeExchange$Row -/
set_option maxRecDepth 100000
def RX7 : String := "CodeExchange$Row"
def TX7 : u_T := fun k => match k with
  | 0 => ("CodeExchange$Row", "values", "[I", true)
  | 1 => ("CodeExchange$Row", "many", "I", false)
  | 2 => ("CodeExchange$Row", "counts", "Z", false)
  | _ => ("CodeExchange$Row", "this$0", "LCodeExchange;", true)
def tyX7 : Nat → FieldType := fun k => match k with
  | 0 => .array .int
  | 1 => .int
  | 2 => .boolean
  | _ => .object "CodeExchange"
abbrev wsX70 : List Cond := u_ws RX7 TX7 4
theorem nmX7 : ∀ a, a < 4 → ∀ b, b < 4 → a ≠ b → (TX7 a).2.1 ≠ (TX7 b).2.1 := by decide +kernel
theorem tyX7_ok : ∀ k, k < 4 → parseFieldDescriptor (TX7 k).2.2.1 = some (tyX7 k) := by decide +kernel
abbrev cX7_init : ByteArray := prog_8_method_1_code
def yX7_init : MethodName := ⟨RX7, "<init>", "(LCodeExchange;)V"⟩
def dkwX7_init_0 : List UInt8 := [42, 43, 181, 0, 3, 42, 183, 0, 9, 42, 17, 23, 112, 188, 10, 181, 0, 15, 177]
abbrev dktX7_init_0 : List UInt8 := dkwX7_init_0 ++ []
theorem dksX7_init_0 : cX7_init.data.toList.drop 0 = dktX7_init_0 := by decide +kernel
theorem dX7_init_0 : decode cX7_init 0 = .ok (.aload_n 0, 1) := dk_42 (dk_at dksX7_init_0 0 rfl rfl)
theorem dX7_init_1 : decode cX7_init 1 = .ok (.aload_n 1, 1) := dk_43 (dk_at dksX7_init_0 1 rfl rfl)
theorem dX7_init_2 : decode cX7_init 2 = .ok (.putfield 3, 3) := dk_181 0 3 (dk_at dksX7_init_0 2 rfl rfl)
theorem dX7_init_5 : decode cX7_init 5 = .ok (.aload_n 0, 1) := dk_42 (dk_at dksX7_init_0 5 rfl rfl)
theorem dX7_init_6 : decode cX7_init 6 = .ok (.invokespecial 9, 3) := dk_183 0 9 (dk_at dksX7_init_0 6 rfl rfl)
theorem dX7_init_9 : decode cX7_init 9 = .ok (.aload_n 0, 1) := dk_42 (dk_at dksX7_init_0 9 rfl rfl)
theorem dX7_init_10 : decode cX7_init 10 = .ok (.sipush 6000, 3) := dk_17 23 112 (dk_at dksX7_init_0 10 rfl rfl)
theorem dX7_init_13 : decode cX7_init 13 = .ok (.newarray .int, 2) := dk_188_10 (dk_at dksX7_init_0 13 rfl rfl)
theorem dX7_init_15 : decode cX7_init 15 = .ok (.putfield 15, 3) := dk_181 0 15 (dk_at dksX7_init_0 15 rfl rfl)
theorem dX7_init_18 : decode cX7_init 18 = .ok (.return_, 1) := dk_177 (dk_at dksX7_init_0 18 rfl rfl)
abbrev cX7_begin : ByteArray := prog_8_method_3_code
def yX7_begin : MethodName := ⟨RX7, "begin", "(Z)V"⟩
def dkwX7_begin_0 : List UInt8 := [42, 3, 181, 0, 23, 42, 27, 181, 0, 19, 177]
abbrev dktX7_begin_0 : List UInt8 := dkwX7_begin_0 ++ []
theorem dksX7_begin_0 : cX7_begin.data.toList.drop 0 = dktX7_begin_0 := by decide +kernel
theorem dX7_begin_0 : decode cX7_begin 0 = .ok (.aload_n 0, 1) := dk_42 (dk_at dksX7_begin_0 0 rfl rfl)
theorem dX7_begin_1 : decode cX7_begin 1 = .ok (.iconst 0, 1) := dk_3 (dk_at dksX7_begin_0 1 rfl rfl)
theorem dX7_begin_2 : decode cX7_begin 2 = .ok (.putfield 23, 3) := dk_181 0 23 (dk_at dksX7_begin_0 2 rfl rfl)
theorem dX7_begin_5 : decode cX7_begin 5 = .ok (.aload_n 0, 1) := dk_42 (dk_at dksX7_begin_0 5 rfl rfl)
theorem dX7_begin_6 : decode cX7_begin 6 = .ok (.iload_n 1, 1) := dk_27 (dk_at dksX7_begin_0 6 rfl rfl)
theorem dX7_begin_7 : decode cX7_begin 7 = .ok (.putfield 19, 3) := dk_181 0 19 (dk_at dksX7_begin_0 7 rfl rfl)
theorem dX7_begin_10 : decode cX7_begin 10 = .ok (.return_, 1) := dk_177 (dk_at dksX7_begin_0 10 rfl rfl)
abbrev cX7_put : ByteArray := prog_8_method_2_code
def yX7_put : MethodName := ⟨RX7, "put", "(I)V"⟩
def dkwX7_put_2 : List UInt8 := [180, 0, 23, 4, 96, 181, 0, 23, 177]
abbrev dktX7_put_2 : List UInt8 := dkwX7_put_2 ++ []
def dkwX7_put_1 : List UInt8 := [182, 0, 27, 191, 42, 180, 0, 19, 154, 0, 13, 42, 180, 0, 15, 42, 180, 0, 23, 27, 79, 42, 89]
abbrev dktX7_put_1 : List UInt8 := dkwX7_put_1 ++ dktX7_put_2
def dkwX7_put_0 : List UInt8 := [42, 180, 0, 19, 154, 0, 23, 42, 180, 0, 23, 17, 23, 112, 160, 0, 13, 42, 180, 0, 3, 16, 250]
abbrev dktX7_put_0 : List UInt8 := dkwX7_put_0 ++ dktX7_put_1
theorem dksX7_put_0 : cX7_put.data.toList.drop 0 = dktX7_put_0 := by decide +kernel
theorem dksX7_put_1 : cX7_put.data.toList.drop 23 = dktX7_put_1 := dk_seg dksX7_put_0 23 rfl rfl
theorem dksX7_put_2 : cX7_put.data.toList.drop 46 = dktX7_put_2 := dk_seg dksX7_put_1 23 rfl rfl
theorem dX7_put_0 : decode cX7_put 0 = .ok (.aload_n 0, 1) := dk_42 (dk_at dksX7_put_0 0 rfl rfl)
theorem dX7_put_1 : decode cX7_put 1 = .ok (.getfield 19, 3) := dk_180 0 19 (dk_at dksX7_put_0 1 rfl rfl)
theorem dX7_put_4 : decode cX7_put 4 = .ok (.ifCond .ne 23, 3) := dk_154 0 23 (dk_at dksX7_put_0 4 rfl rfl)
theorem dX7_put_7 : decode cX7_put 7 = .ok (.aload_n 0, 1) := dk_42 (dk_at dksX7_put_0 7 rfl rfl)
theorem dX7_put_8 : decode cX7_put 8 = .ok (.getfield 23, 3) := dk_180 0 23 (dk_at dksX7_put_0 8 rfl rfl)
theorem dX7_put_11 : decode cX7_put 11 = .ok (.sipush 6000, 3) := dk_17 23 112 (dk_at dksX7_put_0 11 rfl rfl)
theorem dX7_put_14 : decode cX7_put 14 = .ok (.if_icmp .ne 13, 3) := dk_160 0 13 (dk_at dksX7_put_0 14 rfl rfl)
theorem dX7_put_17 : decode cX7_put 17 = .ok (.aload_n 0, 1) := dk_42 (dk_at dksX7_put_0 17 rfl rfl)
theorem dX7_put_18 : decode cX7_put 18 = .ok (.getfield 3, 3) := dk_180 0 3 (dk_at dksX7_put_0 18 rfl rfl)
theorem dX7_put_21 : decode cX7_put 21 = .ok (.bipush (-6), 2) := dk_16 250 (dk_at dksX7_put_0 21 rfl rfl)
theorem dX7_put_23 : decode cX7_put 23 = .ok (.invokevirtual 27, 3) := dk_182 0 27 (dk_at dksX7_put_1 0 rfl rfl)
theorem dX7_put_26 : decode cX7_put 26 = .ok (.athrow, 1) := dk_191 (dk_at dksX7_put_1 3 rfl rfl)
theorem dX7_put_27 : decode cX7_put 27 = .ok (.aload_n 0, 1) := dk_42 (dk_at dksX7_put_1 4 rfl rfl)
theorem dX7_put_28 : decode cX7_put 28 = .ok (.getfield 19, 3) := dk_180 0 19 (dk_at dksX7_put_1 5 rfl rfl)
theorem dX7_put_31 : decode cX7_put 31 = .ok (.ifCond .ne 13, 3) := dk_154 0 13 (dk_at dksX7_put_1 8 rfl rfl)
theorem dX7_put_34 : decode cX7_put 34 = .ok (.aload_n 0, 1) := dk_42 (dk_at dksX7_put_1 11 rfl rfl)
theorem dX7_put_35 : decode cX7_put 35 = .ok (.getfield 15, 3) := dk_180 0 15 (dk_at dksX7_put_1 12 rfl rfl)
theorem dX7_put_38 : decode cX7_put 38 = .ok (.aload_n 0, 1) := dk_42 (dk_at dksX7_put_1 15 rfl rfl)
theorem dX7_put_39 : decode cX7_put 39 = .ok (.getfield 23, 3) := dk_180 0 23 (dk_at dksX7_put_1 16 rfl rfl)
theorem dX7_put_42 : decode cX7_put 42 = .ok (.iload_n 1, 1) := dk_27 (dk_at dksX7_put_1 19 rfl rfl)
theorem dX7_put_43 : decode cX7_put 43 = .ok (.iastore, 1) := dk_79 (dk_at dksX7_put_1 20 rfl rfl)
theorem dX7_put_44 : decode cX7_put 44 = .ok (.aload_n 0, 1) := dk_42 (dk_at dksX7_put_1 21 rfl rfl)
theorem dX7_put_45 : decode cX7_put 45 = .ok (.dup, 1) := dk_89 (dk_at dksX7_put_1 22 rfl rfl)
theorem dX7_put_46 : decode cX7_put 46 = .ok (.getfield 23, 3) := dk_180 0 23 (dk_at dksX7_put_2 0 rfl rfl)
theorem dX7_put_49 : decode cX7_put 49 = .ok (.iconst 1, 1) := dk_4 (dk_at dksX7_put_2 3 rfl rfl)
theorem dX7_put_50 : decode cX7_put 50 = .ok (.iadd, 1) := dk_96 (dk_at dksX7_put_2 4 rfl rfl)
theorem dX7_put_51 : decode cX7_put 51 = .ok (.putfield 23, 3) := dk_181 0 23 (dk_at dksX7_put_2 5 rfl rfl)
theorem dX7_put_54 : decode cX7_put 54 = .ok (.return_, 1) := dk_177 (dk_at dksX7_put_2 8 rfl rfl)
theorem q107 : (Jvm.Cond.initialized "CodeExchange$Row") ∈ lw_all := lw_g (lw_at lw_m1 11 rfl) rfl
theorem q452 : (Jvm.Cond.instantiable "CodeExchange$Row" (4 : Nat)) ∈ lw_all := lw_g (lw_at lw_m2 116 rfl) rfl
theorem q454 : (Jvm.Cond.instanceMethod ({ cls := "CodeExchange$Row", name := "<init>", desc := "(LCodeExchange;)V" } : Jvm.MethodName)) ∈ lw_all := lw_g (lw_at lw_m2 118 rfl) rfl
theorem q455 : (Jvm.Cond.code ({ cls := "CodeExchange$Row", name := "<init>", desc := "(LCodeExchange;)V" } : Jvm.MethodName) prog_8_method_1_code (2 : Nat) (Option.none : Option Jvm.ClassFile.FieldType)) ∈ lw_all := lw_g (lw_at lw_m2 119 rfl) rfl
theorem q456 : (Jvm.Cond.methodLink "CodeExchange$Row" (9 : Nat) ({ cls := "java/lang/Object", name := "<init>", desc := "()V" } : Jvm.MethodName)) ∈ lw_all := lw_g (lw_at lw_m2 120 rfl) rfl
theorem q457 : (Jvm.Cond.fieldLink "CodeExchange$Row" (15 : Nat) "CodeExchange$Row" "values" "[I") ∈ lw_all := lw_g (lw_at lw_m2 121 rfl) rfl
theorem q459 : (Jvm.Cond.fieldLink "CodeExchange$Row" (23 : Nat) "CodeExchange$Row" "many" "I") ∈ lw_all := lw_g (lw_at lw_m2 123 rfl) rfl
theorem q461 : (Jvm.Cond.fieldLink "CodeExchange$Row" (19 : Nat) "CodeExchange$Row" "counts" "Z") ∈ lw_all := lw_g (lw_at lw_m2 125 rfl) rfl
theorem q462 : (Jvm.Cond.fieldLink "CodeExchange$Row" (3 : Nat) "CodeExchange$Row" "this$0" "LCodeExchange;") ∈ lw_all := lw_g (lw_at lw_m2 126 rfl) rfl
theorem q463 : (Jvm.Cond.laysFinal "CodeExchange$Row" "CodeExchange$Row" "values" "[I") ∈ lw_all := lw_g (lw_at lw_m2 127 rfl) rfl
theorem q464 : (Jvm.Cond.soleField "CodeExchange$Row" "values") ∈ lw_all := lw_g (lw_at lw_m2 128 rfl) rfl
theorem q465 : (Jvm.Cond.lays "CodeExchange$Row" "CodeExchange$Row" "many" "I") ∈ lw_all := lw_g (lw_at lw_m2 129 rfl) rfl
theorem q466 : (Jvm.Cond.soleField "CodeExchange$Row" "many") ∈ lw_all := lw_g (lw_at lw_m2 130 rfl) rfl
theorem q467 : (Jvm.Cond.lays "CodeExchange$Row" "CodeExchange$Row" "counts" "Z") ∈ lw_all := lw_g (lw_at lw_m2 131 rfl) rfl
theorem q468 : (Jvm.Cond.soleField "CodeExchange$Row" "counts") ∈ lw_all := lw_g (lw_at lw_m2 132 rfl) rfl
theorem q469 : (Jvm.Cond.laysFinal "CodeExchange$Row" "CodeExchange$Row" "this$0" "LCodeExchange;") ∈ lw_all := lw_g (lw_at lw_m2 133 rfl) rfl
theorem q470 : (Jvm.Cond.soleField "CodeExchange$Row" "this$0") ∈ lw_all := lw_g (lw_at lw_m2 134 rfl) rfl
theorem q471 : (Jvm.Cond.superclass "CodeExchange$Row" "java/lang/Object") ∈ lw_all := lw_g (lw_at lw_m2 135 rfl) rfl
theorem q955 : (Jvm.Cond.instanceMethod ({ cls := "CodeExchange$Row", name := "begin", desc := "(Z)V" } : Jvm.MethodName)) ∈ lw_all := lw_g (lw_at lw_m4 139 rfl) rfl
theorem q956 : (Jvm.Cond.selects "CodeExchange$Row" ({ cls := "CodeExchange$Row", name := "begin", desc := "(Z)V" } : Jvm.MethodName) ({ cls := "CodeExchange$Row", name := "begin", desc := "(Z)V" } : Jvm.MethodName)) ∈ lw_all := lw_g (lw_at lw_m4 140 rfl) rfl
theorem q957 : (Jvm.Cond.code ({ cls := "CodeExchange$Row", name := "begin", desc := "(Z)V" } : Jvm.MethodName) prog_8_method_3_code (2 : Nat) (Option.none : Option Jvm.ClassFile.FieldType)) ∈ lw_all := lw_g (lw_at lw_m4 141 rfl) rfl
theorem q1085 : (Jvm.Cond.castable "CodeExchange$Row" "CodeExchange$Sink") ∈ lw_tbl := lw_at lw_m5 29 rfl
theorem q1086 : (Jvm.Cond.selects "CodeExchange$Row" ({ cls := "CodeExchange$Sink", name := "put", desc := "(I)V" } : Jvm.MethodName) ({ cls := "CodeExchange$Row", name := "put", desc := "(I)V" } : Jvm.MethodName)) ∈ lw_all := lw_g (lw_at lw_m5 30 rfl) rfl
theorem q1087 : (Jvm.Cond.unhidden "CodeExchange$Row" "put" "(I)V") ∈ lw_tbl := lw_at lw_m5 31 rfl
theorem q1088 : (Jvm.Cond.instanceMethod ({ cls := "CodeExchange$Row", name := "put", desc := "(I)V" } : Jvm.MethodName)) ∈ lw_all := lw_g (lw_at lw_m5 32 rfl) rfl
theorem q1089 : (Jvm.Cond.publicMethod ({ cls := "CodeExchange$Row", name := "put", desc := "(I)V" } : Jvm.MethodName)) ∈ lw_tbl := lw_at lw_m5 33 rfl
theorem q1090 : (Jvm.Cond.code ({ cls := "CodeExchange$Row", name := "put", desc := "(I)V" } : Jvm.MethodName) prog_8_method_2_code (2 : Nat) (Option.none : Option Jvm.ClassFile.FieldType)) ∈ lw_all := lw_g (lw_at lw_m5 34 rfl) rfl
theorem q1091 : (Jvm.Cond.methodLinkNest "CodeExchange$Row" (27 : Nat) ({ cls := "CodeExchange", name := "refused", desc := "(I)LCodeExchange$Refusal;" } : Jvm.MethodName) "CodeExchange") ∈ lw_tbl := lw_at lw_m5 35 rfl
theorem q1964 : (Jvm.Cond.selects "CodeExchange$Row" ({ cls := "CodeExchange$Row", name := "put", desc := "(I)V" } : Jvm.MethodName) ({ cls := "CodeExchange$Row", name := "put", desc := "(I)V" } : Jvm.MethodName)) ∈ lw_all := lw_g (lw_at lw_m8 188 rfl) rfl
theorem in_X7 : ∀ w ∈ wsX70, w ∈ lw_all := lw_in wsX70 [463, 465, 467, 469] (by decide +kernel) (by decide +kernel)
/-! CodeExchange$Slot -/
set_option maxRecDepth 100000
def RX8 : String := "CodeExchange$Slot"
def TX8 : u_T := fun k => match k with
  | _ => ("CodeExchange$Slot", "thing", "Ljava/lang/Object;", false)
def tyX8 : Nat → FieldType := fun k => match k with
  | _ => .object "java/lang/Object"
abbrev wsX80 : List Cond := u_ws RX8 TX8 1
theorem nmX8 : ∀ a, a < 1 → ∀ b, b < 1 → a ≠ b → (TX8 a).2.1 ≠ (TX8 b).2.1 := by decide +kernel
theorem tyX8_ok : ∀ k, k < 1 → parseFieldDescriptor (TX8 k).2.2.1 = some (tyX8 k) := by decide +kernel
abbrev cX8_init : ByteArray := prog_10_method_1_code
def yX8_init : MethodName := ⟨RX8, "<init>", "()V"⟩
theorem dX8_init_0 : decode cX8_init 0 = .ok (.aload_n 0, 1) := by decide +kernel
theorem dX8_init_1 : decode cX8_init 1 = .ok (.invokespecial 1, 3) := by decide +kernel
theorem dX8_init_4 : decode cX8_init 4 = .ok (.return_, 1) := by decide +kernel
theorem q108 : (Jvm.Cond.initialized "CodeExchange$Slot") ∈ lw_all := lw_g (lw_at lw_m1 12 rfl) rfl
theorem q472 : (Jvm.Cond.instantiable "CodeExchange$Slot" (1 : Nat)) ∈ lw_all := lw_g (lw_at lw_m2 136 rfl) rfl
theorem q474 : (Jvm.Cond.instanceMethod ({ cls := "CodeExchange$Slot", name := "<init>", desc := "()V" } : Jvm.MethodName)) ∈ lw_all := lw_g (lw_at lw_m2 138 rfl) rfl
theorem q475 : (Jvm.Cond.code ({ cls := "CodeExchange$Slot", name := "<init>", desc := "()V" } : Jvm.MethodName) prog_10_method_1_code (1 : Nat) (Option.none : Option Jvm.ClassFile.FieldType)) ∈ lw_all := lw_g (lw_at lw_m2 139 rfl) rfl
theorem q476 : (Jvm.Cond.methodLink "CodeExchange$Slot" (1 : Nat) ({ cls := "java/lang/Object", name := "<init>", desc := "()V" } : Jvm.MethodName)) ∈ lw_all := lw_g (lw_at lw_m2 140 rfl) rfl
theorem q478 : (Jvm.Cond.lays "CodeExchange$Slot" "CodeExchange$Slot" "thing" "Ljava/lang/Object;") ∈ lw_all := lw_g (lw_at lw_m2 142 rfl) rfl
theorem q479 : (Jvm.Cond.soleField "CodeExchange$Slot" "thing") ∈ lw_all := lw_g (lw_at lw_m2 143 rfl) rfl
theorem q480 : (Jvm.Cond.superclass "CodeExchange$Slot" "java/lang/Object") ∈ lw_all := lw_g (lw_at lw_m2 144 rfl) rfl
theorem in_X8 : ∀ w ∈ wsX80, w ∈ lw_all := lw_in wsX80 [478] (by decide +kernel) (by decide +kernel)
/-! CodeExchange$Form -/
set_option maxRecDepth 100000
def RX10 : String := "CodeExchange$Form"
abbrev cX10_init : ByteArray := prog_3_method_1_code
def yX10_init : MethodName := ⟨RX10, "<init>", "()V"⟩
theorem dX10_init_0 : decode cX10_init 0 = .ok (.aload_n 0, 1) := by decide +kernel
theorem dX10_init_1 : decode cX10_init 1 = .ok (.invokespecial 1, 3) := by decide +kernel
theorem dX10_init_4 : decode cX10_init 4 = .ok (.return_, 1) := by decide +kernel
abbrev cX10_isClosed : ByteArray := prog_3_method_2_code
def yX10_isClosed : MethodName := ⟨RX10, "isClosed", "()Z"⟩
theorem dX10_isClosed_0 : decode cX10_isClosed 0 = .ok (.iconst 1, 1) := by decide +kernel
theorem dX10_isClosed_1 : decode cX10_isClosed 1 = .ok (.ireturn, 1) := by decide +kernel
abbrev cX10_told : ByteArray := prog_3_method_6_code
def yX10_told : MethodName := ⟨RX10, "told", "(JI)J"⟩
def dkwX10_told_0 : List UInt8 := [28, 133, 16, 32, 121, 30, 129, 173]
abbrev dktX10_told_0 : List UInt8 := dkwX10_told_0 ++ []
theorem dksX10_told_0 : cX10_told.data.toList.drop 0 = dktX10_told_0 := by decide +kernel
theorem dX10_told_0 : decode cX10_told 0 = .ok (.iload_n 2, 1) := dk_28 (dk_at dksX10_told_0 0 rfl rfl)
theorem dX10_told_1 : decode cX10_told 1 = .ok (.i2l, 1) := dk_133 (dk_at dksX10_told_0 1 rfl rfl)
theorem dX10_told_2 : decode cX10_told 2 = .ok (.bipush 32, 2) := dk_16 32 (dk_at dksX10_told_0 2 rfl rfl)
theorem dX10_told_4 : decode cX10_told 4 = .ok (.lshl, 1) := dk_121 (dk_at dksX10_told_0 4 rfl rfl)
theorem dX10_told_5 : decode cX10_told 5 = .ok (.lload_n 0, 1) := dk_30 (dk_at dksX10_told_0 5 rfl rfl)
theorem dX10_told_6 : decode cX10_told 6 = .ok (.lor, 1) := dk_129 (dk_at dksX10_told_0 6 rfl rfl)
theorem dX10_told_7 : decode cX10_told 7 = .ok (.lreturn, 1) := dk_173 (dk_at dksX10_told_0 7 rfl rfl)
abbrev cX10_match : ByteArray := prog_3_method_5_code
def yX10_match : MethodName := ⟨RX10, "match", "(II[II)I"⟩
def dkwX10_match_2 : List UInt8 := [162, 0, 17, 42, 45, 21, 4, 182, 0, 17, 153, 0, 7, 2, 167, 0, 4, 3, 172]
abbrev dktX10_match_2 : List UInt8 := dkwX10_match_2 ++ []
def dkwX10_match_1 : List UInt8 := [181, 0, 13, 42, 180, 0, 13, 155, 0, 6, 21, 5, 172, 132, 5, 1, 167, 255, 219, 21, 4, 7]
abbrev dktX10_match_1 : List UInt8 := dkwX10_match_1 ++ dktX10_match_2
def dkwX10_match_0 : List UInt8 := [4, 54, 5, 21, 5, 21, 4, 163, 0, 36, 21, 5, 7, 163, 0, 30, 42, 42, 45, 21, 5, 182, 0, 7]
abbrev dktX10_match_0 : List UInt8 := dkwX10_match_0 ++ dktX10_match_1
theorem dksX10_match_0 : cX10_match.data.toList.drop 0 = dktX10_match_0 := by decide +kernel
theorem dksX10_match_1 : cX10_match.data.toList.drop 24 = dktX10_match_1 := dk_seg dksX10_match_0 24 rfl rfl
theorem dksX10_match_2 : cX10_match.data.toList.drop 46 = dktX10_match_2 := dk_seg dksX10_match_1 22 rfl rfl
theorem dX10_match_0 : decode cX10_match 0 = .ok (.iconst 1, 1) := dk_4 (dk_at dksX10_match_0 0 rfl rfl)
theorem dX10_match_1 : decode cX10_match 1 = .ok (.istore 5, 2) := dk_54 5 (dk_at dksX10_match_0 1 rfl rfl)
theorem dX10_match_3 : decode cX10_match 3 = .ok (.iload 5, 2) := dk_21 5 (dk_at dksX10_match_0 3 rfl rfl)
theorem dX10_match_5 : decode cX10_match 5 = .ok (.iload 4, 2) := dk_21 4 (dk_at dksX10_match_0 5 rfl rfl)
theorem dX10_match_7 : decode cX10_match 7 = .ok (.if_icmp .gt 36, 3) := dk_163 0 36 (dk_at dksX10_match_0 7 rfl rfl)
theorem dX10_match_10 : decode cX10_match 10 = .ok (.iload 5, 2) := dk_21 5 (dk_at dksX10_match_0 10 rfl rfl)
theorem dX10_match_12 : decode cX10_match 12 = .ok (.iconst 4, 1) := dk_7 (dk_at dksX10_match_0 12 rfl rfl)
theorem dX10_match_13 : decode cX10_match 13 = .ok (.if_icmp .gt 30, 3) := dk_163 0 30 (dk_at dksX10_match_0 13 rfl rfl)
theorem dX10_match_16 : decode cX10_match 16 = .ok (.aload_n 0, 1) := dk_42 (dk_at dksX10_match_0 16 rfl rfl)
theorem dX10_match_17 : decode cX10_match 17 = .ok (.aload_n 0, 1) := dk_42 (dk_at dksX10_match_0 17 rfl rfl)
theorem dX10_match_18 : decode cX10_match 18 = .ok (.aload_n 3, 1) := dk_45 (dk_at dksX10_match_0 18 rfl rfl)
theorem dX10_match_19 : decode cX10_match 19 = .ok (.iload 5, 2) := dk_21 5 (dk_at dksX10_match_0 19 rfl rfl)
theorem dX10_match_21 : decode cX10_match 21 = .ok (.invokevirtual 7, 3) := dk_182 0 7 (dk_at dksX10_match_0 21 rfl rfl)
theorem dX10_match_24 : decode cX10_match 24 = .ok (.putfield 13, 3) := dk_181 0 13 (dk_at dksX10_match_1 0 rfl rfl)
theorem dX10_match_27 : decode cX10_match 27 = .ok (.aload_n 0, 1) := dk_42 (dk_at dksX10_match_1 3 rfl rfl)
theorem dX10_match_28 : decode cX10_match 28 = .ok (.getfield 13, 3) := dk_180 0 13 (dk_at dksX10_match_1 4 rfl rfl)
theorem dX10_match_31 : decode cX10_match 31 = .ok (.ifCond .lt 6, 3) := dk_155 0 6 (dk_at dksX10_match_1 7 rfl rfl)
theorem dX10_match_34 : decode cX10_match 34 = .ok (.iload 5, 2) := dk_21 5 (dk_at dksX10_match_1 10 rfl rfl)
theorem dX10_match_36 : decode cX10_match 36 = .ok (.ireturn, 1) := dk_172 (dk_at dksX10_match_1 12 rfl rfl)
theorem dX10_match_37 : decode cX10_match 37 = .ok (.iinc 5 1, 3) := dk_132 5 1 (dk_at dksX10_match_1 13 rfl rfl)
theorem dX10_match_40 : decode cX10_match 40 = .ok (.goto (-37), 3) := dk_167 255 219 (dk_at dksX10_match_1 16 rfl rfl)
theorem dX10_match_43 : decode cX10_match 43 = .ok (.iload 4, 2) := dk_21 4 (dk_at dksX10_match_1 19 rfl rfl)
theorem dX10_match_45 : decode cX10_match 45 = .ok (.iconst 4, 1) := dk_7 (dk_at dksX10_match_1 21 rfl rfl)
theorem dX10_match_46 : decode cX10_match 46 = .ok (.if_icmp .ge 17, 3) := dk_162 0 17 (dk_at dksX10_match_2 0 rfl rfl)
theorem dX10_match_49 : decode cX10_match 49 = .ok (.aload_n 0, 1) := dk_42 (dk_at dksX10_match_2 3 rfl rfl)
theorem dX10_match_50 : decode cX10_match 50 = .ok (.aload_n 3, 1) := dk_45 (dk_at dksX10_match_2 4 rfl rfl)
theorem dX10_match_51 : decode cX10_match 51 = .ok (.iload 4, 2) := dk_21 4 (dk_at dksX10_match_2 5 rfl rfl)
theorem dX10_match_53 : decode cX10_match 53 = .ok (.invokevirtual 17, 3) := dk_182 0 17 (dk_at dksX10_match_2 7 rfl rfl)
theorem dX10_match_56 : decode cX10_match 56 = .ok (.ifCond .eq 7, 3) := dk_153 0 7 (dk_at dksX10_match_2 10 rfl rfl)
theorem dX10_match_59 : decode cX10_match 59 = .ok (.iconst (-1), 1) := dk_2 (dk_at dksX10_match_2 13 rfl rfl)
theorem dX10_match_60 : decode cX10_match 60 = .ok (.goto 4, 3) := dk_167 0 4 (dk_at dksX10_match_2 14 rfl rfl)
theorem dX10_match_63 : decode cX10_match 63 = .ok (.iconst 0, 1) := dk_3 (dk_at dksX10_match_2 17 rfl rfl)
theorem dX10_match_64 : decode cX10_match 64 = .ok (.ireturn, 1) := dk_172 (dk_at dksX10_match_2 18 rfl rfl)
theorem q110 : (Jvm.Cond.initialized "CodeExchange$Form") ∈ lw_all := lw_g (lw_at lw_m1 14 rfl) rfl
theorem q264 : (Jvm.Cond.fieldLink "CodeExchange$Form" (13 : Nat) "CodeExchange$Form" "hitPoint" "I") ∈ lw_all := lw_g (lw_at lw_m1 168 rfl) rfl
theorem q265 : (Jvm.Cond.sameField "CodeExchange$Form" "CodeExchange$Page" "hitPoint" "I") ∈ lw_all := lw_g (lw_at lw_m1 169 rfl) rfl
theorem q603 : (Jvm.Cond.instanceMethod ({ cls := "CodeExchange$Form", name := "<init>", desc := "()V" } : Jvm.MethodName)) ∈ lw_all := lw_g (lw_at lw_m3 27 rfl) rfl
theorem q604 : (Jvm.Cond.code ({ cls := "CodeExchange$Form", name := "<init>", desc := "()V" } : Jvm.MethodName) prog_3_method_1_code (1 : Nat) (Option.none : Option Jvm.ClassFile.FieldType)) ∈ lw_all := lw_g (lw_at lw_m3 28 rfl) rfl
theorem q605 : (Jvm.Cond.methodLinkNest "CodeExchange$Form" (1 : Nat) ({ cls := "CodeExchange$Page", name := "<init>", desc := "()V" } : Jvm.MethodName) "CodeExchange") ∈ lw_tbl := lw_at lw_m3 29 rfl
theorem q876 : (Jvm.Cond.instanceMethod ({ cls := "CodeExchange$Form", name := "isClosed", desc := "()Z" } : Jvm.MethodName)) ∈ lw_all := lw_g (lw_at lw_m4 60 rfl) rfl
theorem q877 : (Jvm.Cond.code ({ cls := "CodeExchange$Form", name := "isClosed", desc := "()Z" } : Jvm.MethodName) prog_3_method_2_code (1 : Nat) (Option.some Jvm.ClassFile.FieldType.boolean)) ∈ lw_all := lw_g (lw_at lw_m4 61 rfl) rfl
theorem q899 : (Jvm.Cond.static ({ cls := "CodeExchange$Form", name := "told", desc := "(JI)J" } : Jvm.MethodName)) ∈ lw_all := lw_g (lw_at lw_m4 83 rfl) rfl
theorem q900 : (Jvm.Cond.code ({ cls := "CodeExchange$Form", name := "told", desc := "(JI)J" } : Jvm.MethodName) prog_3_method_6_code (3 : Nat) (Option.some Jvm.ClassFile.FieldType.long)) ∈ lw_all := lw_g (lw_at lw_m4 84 rfl) rfl
theorem q988 : (Jvm.Cond.instanceMethod ({ cls := "CodeExchange$Form", name := "match", desc := "(II[II)I" } : Jvm.MethodName)) ∈ lw_all := lw_g (lw_at lw_m4 172 rfl) rfl
theorem q989 : (Jvm.Cond.code ({ cls := "CodeExchange$Form", name := "match", desc := "(II[II)I" } : Jvm.MethodName) prog_3_method_5_code (6 : Nat) (Option.some Jvm.ClassFile.FieldType.int)) ∈ lw_all := lw_g (lw_at lw_m4 173 rfl) rfl
theorem q990 : (Jvm.Cond.methodLink "CodeExchange$Form" (7 : Nat) ({ cls := "CodeExchange$Form", name := "whole", desc := "([II)I" } : Jvm.MethodName)) ∈ lw_all := lw_g (lw_at lw_m4 174 rfl) rfl
theorem q991 : (Jvm.Cond.declares ({ cls := "CodeExchange$Form", name := "whole", desc := "([II)I" } : Jvm.MethodName)) ∈ lw_tbl := lw_at lw_m4 175 rfl
theorem q992 : (Jvm.Cond.sameMethod "CodeExchange$Form" "CodeExchange$Form" "whole" "([II)I") ∈ lw_all := lw_g (lw_at lw_m4 176 rfl) rfl
theorem q1031 : (Jvm.Cond.methodLink "CodeExchange$Form" (17 : Nat) ({ cls := "CodeExchange$Form", name := "begins", desc := "([II)Z" } : Jvm.MethodName)) ∈ lw_all := lw_g (lw_at lw_m4 215 rfl) rfl
theorem q1032 : (Jvm.Cond.declares ({ cls := "CodeExchange$Form", name := "begins", desc := "([II)Z" } : Jvm.MethodName)) ∈ lw_tbl := lw_at lw_m4 216 rfl
theorem q1033 : (Jvm.Cond.sameMethod "CodeExchange$Form" "CodeExchange$Form" "begins" "([II)Z") ∈ lw_all := lw_g (lw_at lw_m4 217 rfl) rfl
theorem q1054 : (Jvm.Cond.declares ({ cls := "CodeExchange$Form", name := "match", desc := "(II[II)I" } : Jvm.MethodName)) ∈ lw_tbl := lw_at lw_m4 238 rfl
/-! CodeExchange$Wide -/
set_option maxRecDepth 100000
def RX11 : String := "CodeExchange$Wide"
def TX11 : u_T := fun k => match k with
  | 0 => ("CodeExchange$Page", "hitPoint", "I", false)
  | 1 => ("CodeExchange$Page", "hitGoal", "I", false)
  | _ => ("CodeExchange$Page", "hitSticky", "Z", false)
def tyX11 : Nat → FieldType := fun k => match k with
  | 0 => .int
  | 1 => .int
  | _ => .boolean
abbrev wsX110 : List Cond := u_ws RX11 TX11 3
theorem nmX11 : ∀ a, a < 3 → ∀ b, b < 3 → a ≠ b → (TX11 a).2.1 ≠ (TX11 b).2.1 := by decide +kernel
theorem tyX11_ok : ∀ k, k < 3 → parseFieldDescriptor (TX11 k).2.2.1 = some (tyX11 k) := by decide +kernel
abbrev cX11_init : ByteArray := prog_14_method_1_code
def yX11_init : MethodName := ⟨RX11, "<init>", "()V"⟩
theorem dX11_init_0 : decode cX11_init 0 = .ok (.aload_n 0, 1) := by decide +kernel
theorem dX11_init_1 : decode cX11_init 1 = .ok (.invokespecial 1, 3) := by decide +kernel
theorem dX11_init_4 : decode cX11_init 4 = .ok (.return_, 1) := by decide +kernel
abbrev cX11_kind : ByteArray := prog_14_method_2_code
def yX11_kind : MethodName := ⟨RX11, "kind", "()I"⟩
theorem dX11_kind_0 : decode cX11_kind 0 = .ok (.iconst 1, 1) := by decide +kernel
theorem dX11_kind_1 : decode cX11_kind 1 = .ok (.ireturn, 1) := by decide +kernel
abbrev cX11_code : ByteArray := prog_14_method_6_code
def yX11_code : MethodName := ⟨RX11, "code", "(I)J"⟩
def dkwX11_code_1 : List UInt8 := [122, 133, 97, 16, 16, 121, 18, 40, 27, 18, 33, 100, 17, 3, 255, 126, 96, 133, 129, 7, 184, 0, 34, 173]
abbrev dktX11_code_1 : List UInt8 := dkwX11_code_1 ++ []
def dkwX11_code_0 : List UInt8 := [27, 18, 33, 162, 0, 12, 27, 133, 5, 184, 0, 34, 167, 0, 35, 20, 0, 38, 27, 18, 33, 100, 16, 10]
abbrev dktX11_code_0 : List UInt8 := dkwX11_code_0 ++ dktX11_code_1
theorem dksX11_code_0 : cX11_code.data.toList.drop 0 = dktX11_code_0 := by decide +kernel
theorem dksX11_code_1 : cX11_code.data.toList.drop 24 = dktX11_code_1 := dk_seg dksX11_code_0 24 rfl rfl
theorem dX11_code_0 : decode cX11_code 0 = .ok (.iload_n 1, 1) := dk_27 (dk_at dksX11_code_0 0 rfl rfl)
theorem dX11_code_1 : decode cX11_code 1 = .ok (.ldc 33, 2) := dk_18 33 (dk_at dksX11_code_0 1 rfl rfl)
theorem dX11_code_3 : decode cX11_code 3 = .ok (.if_icmp .ge 12, 3) := dk_162 0 12 (dk_at dksX11_code_0 3 rfl rfl)
theorem dX11_code_6 : decode cX11_code 6 = .ok (.iload_n 1, 1) := dk_27 (dk_at dksX11_code_0 6 rfl rfl)
theorem dX11_code_7 : decode cX11_code 7 = .ok (.i2l, 1) := dk_133 (dk_at dksX11_code_0 7 rfl rfl)
theorem dX11_code_8 : decode cX11_code 8 = .ok (.iconst 2, 1) := dk_5 (dk_at dksX11_code_0 8 rfl rfl)
theorem dX11_code_9 : decode cX11_code 9 = .ok (.invokestatic 34, 3) := dk_184 0 34 (dk_at dksX11_code_0 9 rfl rfl)
theorem dX11_code_12 : decode cX11_code 12 = .ok (.goto 35, 3) := dk_167 0 35 (dk_at dksX11_code_0 12 rfl rfl)
theorem dX11_code_15 : decode cX11_code 15 = .ok (.ldc2_w 38, 3) := dk_20 0 38 (dk_at dksX11_code_0 15 rfl rfl)
theorem dX11_code_18 : decode cX11_code 18 = .ok (.iload_n 1, 1) := dk_27 (dk_at dksX11_code_0 18 rfl rfl)
theorem dX11_code_19 : decode cX11_code 19 = .ok (.ldc 33, 2) := dk_18 33 (dk_at dksX11_code_0 19 rfl rfl)
theorem dX11_code_21 : decode cX11_code 21 = .ok (.isub, 1) := dk_100 (dk_at dksX11_code_0 21 rfl rfl)
theorem dX11_code_22 : decode cX11_code 22 = .ok (.bipush 10, 2) := dk_16 10 (dk_at dksX11_code_0 22 rfl rfl)
theorem dX11_code_24 : decode cX11_code 24 = .ok (.ishr, 1) := dk_122 (dk_at dksX11_code_1 0 rfl rfl)
theorem dX11_code_25 : decode cX11_code 25 = .ok (.i2l, 1) := dk_133 (dk_at dksX11_code_1 1 rfl rfl)
theorem dX11_code_26 : decode cX11_code 26 = .ok (.ladd, 1) := dk_97 (dk_at dksX11_code_1 2 rfl rfl)
theorem dX11_code_27 : decode cX11_code 27 = .ok (.bipush 16, 2) := dk_16 16 (dk_at dksX11_code_1 3 rfl rfl)
theorem dX11_code_29 : decode cX11_code 29 = .ok (.lshl, 1) := dk_121 (dk_at dksX11_code_1 5 rfl rfl)
theorem dX11_code_30 : decode cX11_code 30 = .ok (.ldc 40, 2) := dk_18 40 (dk_at dksX11_code_1 6 rfl rfl)
theorem dX11_code_32 : decode cX11_code 32 = .ok (.iload_n 1, 1) := dk_27 (dk_at dksX11_code_1 8 rfl rfl)
theorem dX11_code_33 : decode cX11_code 33 = .ok (.ldc 33, 2) := dk_18 33 (dk_at dksX11_code_1 9 rfl rfl)
theorem dX11_code_35 : decode cX11_code 35 = .ok (.isub, 1) := dk_100 (dk_at dksX11_code_1 11 rfl rfl)
theorem dX11_code_36 : decode cX11_code 36 = .ok (.sipush 1023, 3) := dk_17 3 255 (dk_at dksX11_code_1 12 rfl rfl)
theorem dX11_code_39 : decode cX11_code 39 = .ok (.iand, 1) := dk_126 (dk_at dksX11_code_1 15 rfl rfl)
theorem dX11_code_40 : decode cX11_code 40 = .ok (.iadd, 1) := dk_96 (dk_at dksX11_code_1 16 rfl rfl)
theorem dX11_code_41 : decode cX11_code 41 = .ok (.i2l, 1) := dk_133 (dk_at dksX11_code_1 17 rfl rfl)
theorem dX11_code_42 : decode cX11_code 42 = .ok (.lor, 1) := dk_129 (dk_at dksX11_code_1 18 rfl rfl)
theorem dX11_code_43 : decode cX11_code 43 = .ok (.iconst 4, 1) := dk_7 (dk_at dksX11_code_1 19 rfl rfl)
theorem dX11_code_44 : decode cX11_code 44 = .ok (.invokestatic 34, 3) := dk_184 0 34 (dk_at dksX11_code_1 20 rfl rfl)
theorem dX11_code_47 : decode cX11_code 47 = .ok (.lreturn, 1) := dk_173 (dk_at dksX11_code_1 23 rfl rfl)
abbrev cX11_whole : ByteArray := prog_14_method_4_code
def yX11_whole : MethodName := ⟨RX11, "whole", "([II)I"⟩
def dkwX11_whole_2 : List UInt8 := [153, 0, 20, 21, 4, 184, 0, 22, 153, 0, 12, 29, 21, 4, 184, 0, 25, 167, 0, 4, 2, 172]
abbrev dktX11_whole_2 : List UInt8 := dkwX11_whole_2 ++ []
def dkwX11_whole_1 : List UInt8 := [184, 0, 13, 153, 0, 7, 29, 167, 0, 4, 2, 172, 42, 43, 5, 182, 0, 7, 54, 4, 29, 184, 0, 19]
abbrev dktX11_whole_1 : List UInt8 := dkwX11_whole_1 ++ dktX11_whole_2
def dkwX11_whole_0 : List UInt8 := [28, 5, 112, 4, 160, 0, 5, 2, 172, 42, 43, 3, 182, 0, 7, 62, 28, 5, 160, 0, 16, 29]
abbrev dktX11_whole_0 : List UInt8 := dkwX11_whole_0 ++ dktX11_whole_1
theorem dksX11_whole_0 : cX11_whole.data.toList.drop 0 = dktX11_whole_0 := by decide +kernel
theorem dksX11_whole_1 : cX11_whole.data.toList.drop 22 = dktX11_whole_1 := dk_seg dksX11_whole_0 22 rfl rfl
theorem dksX11_whole_2 : cX11_whole.data.toList.drop 46 = dktX11_whole_2 := dk_seg dksX11_whole_1 24 rfl rfl
theorem dX11_whole_0 : decode cX11_whole 0 = .ok (.iload_n 2, 1) := dk_28 (dk_at dksX11_whole_0 0 rfl rfl)
theorem dX11_whole_1 : decode cX11_whole 1 = .ok (.iconst 2, 1) := dk_5 (dk_at dksX11_whole_0 1 rfl rfl)
theorem dX11_whole_2 : decode cX11_whole 2 = .ok (.irem, 1) := dk_112 (dk_at dksX11_whole_0 2 rfl rfl)
theorem dX11_whole_3 : decode cX11_whole 3 = .ok (.iconst 1, 1) := dk_4 (dk_at dksX11_whole_0 3 rfl rfl)
theorem dX11_whole_4 : decode cX11_whole 4 = .ok (.if_icmp .ne 5, 3) := dk_160 0 5 (dk_at dksX11_whole_0 4 rfl rfl)
theorem dX11_whole_7 : decode cX11_whole 7 = .ok (.iconst (-1), 1) := dk_2 (dk_at dksX11_whole_0 7 rfl rfl)
theorem dX11_whole_8 : decode cX11_whole 8 = .ok (.ireturn, 1) := dk_172 (dk_at dksX11_whole_0 8 rfl rfl)
theorem dX11_whole_9 : decode cX11_whole 9 = .ok (.aload_n 0, 1) := dk_42 (dk_at dksX11_whole_0 9 rfl rfl)
theorem dX11_whole_10 : decode cX11_whole 10 = .ok (.aload_n 1, 1) := dk_43 (dk_at dksX11_whole_0 10 rfl rfl)
theorem dX11_whole_11 : decode cX11_whole 11 = .ok (.iconst 0, 1) := dk_3 (dk_at dksX11_whole_0 11 rfl rfl)
theorem dX11_whole_12 : decode cX11_whole 12 = .ok (.invokevirtual 7, 3) := dk_182 0 7 (dk_at dksX11_whole_0 12 rfl rfl)
theorem dX11_whole_15 : decode cX11_whole 15 = .ok (.istore_n 3, 1) := dk_62 (dk_at dksX11_whole_0 15 rfl rfl)
theorem dX11_whole_16 : decode cX11_whole 16 = .ok (.iload_n 2, 1) := dk_28 (dk_at dksX11_whole_0 16 rfl rfl)
theorem dX11_whole_17 : decode cX11_whole 17 = .ok (.iconst 2, 1) := dk_5 (dk_at dksX11_whole_0 17 rfl rfl)
theorem dX11_whole_18 : decode cX11_whole 18 = .ok (.if_icmp .ne 16, 3) := dk_160 0 16 (dk_at dksX11_whole_0 18 rfl rfl)
theorem dX11_whole_21 : decode cX11_whole 21 = .ok (.iload_n 3, 1) := dk_29 (dk_at dksX11_whole_0 21 rfl rfl)
theorem dX11_whole_22 : decode cX11_whole 22 = .ok (.invokestatic 13, 3) := dk_184 0 13 (dk_at dksX11_whole_1 0 rfl rfl)
theorem dX11_whole_25 : decode cX11_whole 25 = .ok (.ifCond .eq 7, 3) := dk_153 0 7 (dk_at dksX11_whole_1 3 rfl rfl)
theorem dX11_whole_28 : decode cX11_whole 28 = .ok (.iload_n 3, 1) := dk_29 (dk_at dksX11_whole_1 6 rfl rfl)
theorem dX11_whole_29 : decode cX11_whole 29 = .ok (.goto 4, 3) := dk_167 0 4 (dk_at dksX11_whole_1 7 rfl rfl)
theorem dX11_whole_32 : decode cX11_whole 32 = .ok (.iconst (-1), 1) := dk_2 (dk_at dksX11_whole_1 10 rfl rfl)
theorem dX11_whole_33 : decode cX11_whole 33 = .ok (.ireturn, 1) := dk_172 (dk_at dksX11_whole_1 11 rfl rfl)
theorem dX11_whole_34 : decode cX11_whole 34 = .ok (.aload_n 0, 1) := dk_42 (dk_at dksX11_whole_1 12 rfl rfl)
theorem dX11_whole_35 : decode cX11_whole 35 = .ok (.aload_n 1, 1) := dk_43 (dk_at dksX11_whole_1 13 rfl rfl)
theorem dX11_whole_36 : decode cX11_whole 36 = .ok (.iconst 2, 1) := dk_5 (dk_at dksX11_whole_1 14 rfl rfl)
theorem dX11_whole_37 : decode cX11_whole 37 = .ok (.invokevirtual 7, 3) := dk_182 0 7 (dk_at dksX11_whole_1 15 rfl rfl)
theorem dX11_whole_40 : decode cX11_whole 40 = .ok (.istore 4, 2) := dk_54 4 (dk_at dksX11_whole_1 18 rfl rfl)
theorem dX11_whole_42 : decode cX11_whole 42 = .ok (.iload_n 3, 1) := dk_29 (dk_at dksX11_whole_1 20 rfl rfl)
theorem dX11_whole_43 : decode cX11_whole 43 = .ok (.invokestatic 19, 3) := dk_184 0 19 (dk_at dksX11_whole_1 21 rfl rfl)
theorem dX11_whole_46 : decode cX11_whole 46 = .ok (.ifCond .eq 20, 3) := dk_153 0 20 (dk_at dksX11_whole_2 0 rfl rfl)
theorem dX11_whole_49 : decode cX11_whole 49 = .ok (.iload 4, 2) := dk_21 4 (dk_at dksX11_whole_2 3 rfl rfl)
theorem dX11_whole_51 : decode cX11_whole 51 = .ok (.invokestatic 22, 3) := dk_184 0 22 (dk_at dksX11_whole_2 5 rfl rfl)
theorem dX11_whole_54 : decode cX11_whole 54 = .ok (.ifCond .eq 12, 3) := dk_153 0 12 (dk_at dksX11_whole_2 8 rfl rfl)
theorem dX11_whole_57 : decode cX11_whole 57 = .ok (.iload_n 3, 1) := dk_29 (dk_at dksX11_whole_2 11 rfl rfl)
theorem dX11_whole_58 : decode cX11_whole 58 = .ok (.iload 4, 2) := dk_21 4 (dk_at dksX11_whole_2 12 rfl rfl)
theorem dX11_whole_60 : decode cX11_whole 60 = .ok (.invokestatic 25, 3) := dk_184 0 25 (dk_at dksX11_whole_2 14 rfl rfl)
theorem dX11_whole_63 : decode cX11_whole 63 = .ok (.goto 4, 3) := dk_167 0 4 (dk_at dksX11_whole_2 17 rfl rfl)
theorem dX11_whole_66 : decode cX11_whole 66 = .ok (.iconst (-1), 1) := dk_2 (dk_at dksX11_whole_2 20 rfl rfl)
theorem dX11_whole_67 : decode cX11_whole 67 = .ok (.ireturn, 1) := dk_172 (dk_at dksX11_whole_2 21 rfl rfl)
abbrev cX11_unit : ByteArray := prog_14_method_3_code
def yX11_unit : MethodName := ⟨RX11, "unit", "([II)I"⟩
def dkwX11_unit_0 : List UInt8 := [43, 28, 46, 16, 8, 120, 43, 28, 4, 96, 46, 128, 172]
abbrev dktX11_unit_0 : List UInt8 := dkwX11_unit_0 ++ []
theorem dksX11_unit_0 : cX11_unit.data.toList.drop 0 = dktX11_unit_0 := by decide +kernel
theorem dX11_unit_0 : decode cX11_unit 0 = .ok (.aload_n 1, 1) := dk_43 (dk_at dksX11_unit_0 0 rfl rfl)
theorem dX11_unit_1 : decode cX11_unit 1 = .ok (.iload_n 2, 1) := dk_28 (dk_at dksX11_unit_0 1 rfl rfl)
theorem dX11_unit_2 : decode cX11_unit 2 = .ok (.iaload, 1) := dk_46 (dk_at dksX11_unit_0 2 rfl rfl)
theorem dX11_unit_3 : decode cX11_unit 3 = .ok (.bipush 8, 2) := dk_16 8 (dk_at dksX11_unit_0 3 rfl rfl)
theorem dX11_unit_5 : decode cX11_unit 5 = .ok (.ishl, 1) := dk_120 (dk_at dksX11_unit_0 5 rfl rfl)
theorem dX11_unit_6 : decode cX11_unit 6 = .ok (.aload_n 1, 1) := dk_43 (dk_at dksX11_unit_0 6 rfl rfl)
theorem dX11_unit_7 : decode cX11_unit 7 = .ok (.iload_n 2, 1) := dk_28 (dk_at dksX11_unit_0 7 rfl rfl)
theorem dX11_unit_8 : decode cX11_unit 8 = .ok (.iconst 1, 1) := dk_4 (dk_at dksX11_unit_0 8 rfl rfl)
theorem dX11_unit_9 : decode cX11_unit 9 = .ok (.iadd, 1) := dk_96 (dk_at dksX11_unit_0 9 rfl rfl)
theorem dX11_unit_10 : decode cX11_unit 10 = .ok (.iaload, 1) := dk_46 (dk_at dksX11_unit_0 10 rfl rfl)
theorem dX11_unit_11 : decode cX11_unit 11 = .ok (.ior, 1) := dk_128 (dk_at dksX11_unit_0 11 rfl rfl)
theorem dX11_unit_12 : decode cX11_unit 12 = .ok (.ireturn, 1) := dk_172 (dk_at dksX11_unit_0 12 rfl rfl)
abbrev cX11_begins : ByteArray := prog_14_method_5_code
def yX11_begins : MethodName := ⟨RX11, "begins", "([II)Z"⟩
def dkwX11_begins_2 : List UInt8 := [17, 0, 220, 17, 0, 223, 184, 0, 29, 153, 0, 7, 4, 167, 0, 4, 3, 172]
abbrev dktX11_begins_2 : List UInt8 := dkwX11_begins_2 ++ []
def dkwX11_begins_1 : List UInt8 := [3, 172, 42, 43, 3, 182, 0, 7, 184, 0, 19, 153, 0, 27, 28, 5, 159, 0, 18, 43, 5, 46]
abbrev dktX11_begins_1 : List UInt8 := dkwX11_begins_1 ++ dktX11_begins_2
def dkwX11_begins_0 : List UInt8 := [28, 4, 160, 0, 24, 43, 3, 46, 17, 0, 220, 17, 0, 223, 184, 0, 29, 154, 0, 7, 4, 167, 0, 4]
abbrev dktX11_begins_0 : List UInt8 := dkwX11_begins_0 ++ dktX11_begins_1
theorem dksX11_begins_0 : cX11_begins.data.toList.drop 0 = dktX11_begins_0 := by decide +kernel
theorem dksX11_begins_1 : cX11_begins.data.toList.drop 24 = dktX11_begins_1 := dk_seg dksX11_begins_0 24 rfl rfl
theorem dksX11_begins_2 : cX11_begins.data.toList.drop 46 = dktX11_begins_2 := dk_seg dksX11_begins_1 22 rfl rfl
theorem dX11_begins_0 : decode cX11_begins 0 = .ok (.iload_n 2, 1) := dk_28 (dk_at dksX11_begins_0 0 rfl rfl)
theorem dX11_begins_1 : decode cX11_begins 1 = .ok (.iconst 1, 1) := dk_4 (dk_at dksX11_begins_0 1 rfl rfl)
theorem dX11_begins_2 : decode cX11_begins 2 = .ok (.if_icmp .ne 24, 3) := dk_160 0 24 (dk_at dksX11_begins_0 2 rfl rfl)
theorem dX11_begins_5 : decode cX11_begins 5 = .ok (.aload_n 1, 1) := dk_43 (dk_at dksX11_begins_0 5 rfl rfl)
theorem dX11_begins_6 : decode cX11_begins 6 = .ok (.iconst 0, 1) := dk_3 (dk_at dksX11_begins_0 6 rfl rfl)
theorem dX11_begins_7 : decode cX11_begins 7 = .ok (.iaload, 1) := dk_46 (dk_at dksX11_begins_0 7 rfl rfl)
theorem dX11_begins_8 : decode cX11_begins 8 = .ok (.sipush 220, 3) := dk_17 0 220 (dk_at dksX11_begins_0 8 rfl rfl)
theorem dX11_begins_11 : decode cX11_begins 11 = .ok (.sipush 223, 3) := dk_17 0 223 (dk_at dksX11_begins_0 11 rfl rfl)
theorem dX11_begins_14 : decode cX11_begins 14 = .ok (.invokestatic 29, 3) := dk_184 0 29 (dk_at dksX11_begins_0 14 rfl rfl)
theorem dX11_begins_17 : decode cX11_begins 17 = .ok (.ifCond .ne 7, 3) := dk_154 0 7 (dk_at dksX11_begins_0 17 rfl rfl)
theorem dX11_begins_20 : decode cX11_begins 20 = .ok (.iconst 1, 1) := dk_4 (dk_at dksX11_begins_0 20 rfl rfl)
theorem dX11_begins_21 : decode cX11_begins 21 = .ok (.goto 4, 3) := dk_167 0 4 (dk_at dksX11_begins_0 21 rfl rfl)
theorem dX11_begins_24 : decode cX11_begins 24 = .ok (.iconst 0, 1) := dk_3 (dk_at dksX11_begins_1 0 rfl rfl)
theorem dX11_begins_25 : decode cX11_begins 25 = .ok (.ireturn, 1) := dk_172 (dk_at dksX11_begins_1 1 rfl rfl)
theorem dX11_begins_26 : decode cX11_begins 26 = .ok (.aload_n 0, 1) := dk_42 (dk_at dksX11_begins_1 2 rfl rfl)
theorem dX11_begins_27 : decode cX11_begins 27 = .ok (.aload_n 1, 1) := dk_43 (dk_at dksX11_begins_1 3 rfl rfl)
theorem dX11_begins_28 : decode cX11_begins 28 = .ok (.iconst 0, 1) := dk_3 (dk_at dksX11_begins_1 4 rfl rfl)
theorem dX11_begins_29 : decode cX11_begins 29 = .ok (.invokevirtual 7, 3) := dk_182 0 7 (dk_at dksX11_begins_1 5 rfl rfl)
theorem dX11_begins_32 : decode cX11_begins 32 = .ok (.invokestatic 19, 3) := dk_184 0 19 (dk_at dksX11_begins_1 8 rfl rfl)
theorem dX11_begins_35 : decode cX11_begins 35 = .ok (.ifCond .eq 27, 3) := dk_153 0 27 (dk_at dksX11_begins_1 11 rfl rfl)
theorem dX11_begins_38 : decode cX11_begins 38 = .ok (.iload_n 2, 1) := dk_28 (dk_at dksX11_begins_1 14 rfl rfl)
theorem dX11_begins_39 : decode cX11_begins 39 = .ok (.iconst 2, 1) := dk_5 (dk_at dksX11_begins_1 15 rfl rfl)
theorem dX11_begins_40 : decode cX11_begins 40 = .ok (.if_icmp .eq 18, 3) := dk_159 0 18 (dk_at dksX11_begins_1 16 rfl rfl)
theorem dX11_begins_43 : decode cX11_begins 43 = .ok (.aload_n 1, 1) := dk_43 (dk_at dksX11_begins_1 19 rfl rfl)
theorem dX11_begins_44 : decode cX11_begins 44 = .ok (.iconst 2, 1) := dk_5 (dk_at dksX11_begins_1 20 rfl rfl)
theorem dX11_begins_45 : decode cX11_begins 45 = .ok (.iaload, 1) := dk_46 (dk_at dksX11_begins_1 21 rfl rfl)
theorem dX11_begins_46 : decode cX11_begins 46 = .ok (.sipush 220, 3) := dk_17 0 220 (dk_at dksX11_begins_2 0 rfl rfl)
theorem dX11_begins_49 : decode cX11_begins 49 = .ok (.sipush 223, 3) := dk_17 0 223 (dk_at dksX11_begins_2 3 rfl rfl)
theorem dX11_begins_52 : decode cX11_begins 52 = .ok (.invokestatic 29, 3) := dk_184 0 29 (dk_at dksX11_begins_2 6 rfl rfl)
theorem dX11_begins_55 : decode cX11_begins 55 = .ok (.ifCond .eq 7, 3) := dk_153 0 7 (dk_at dksX11_begins_2 9 rfl rfl)
theorem dX11_begins_58 : decode cX11_begins 58 = .ok (.iconst 1, 1) := dk_4 (dk_at dksX11_begins_2 12 rfl rfl)
theorem dX11_begins_59 : decode cX11_begins 59 = .ok (.goto 4, 3) := dk_167 0 4 (dk_at dksX11_begins_2 13 rfl rfl)
theorem dX11_begins_62 : decode cX11_begins 62 = .ok (.iconst 0, 1) := dk_3 (dk_at dksX11_begins_2 16 rfl rfl)
theorem dX11_begins_63 : decode cX11_begins 63 = .ok (.ireturn, 1) := dk_172 (dk_at dksX11_begins_2 17 rfl rfl)
theorem q111 : (Jvm.Cond.initialized "CodeExchange$Wide") ∈ lw_all := lw_g (lw_at lw_m1 15 rfl) rfl
theorem q598 : (Jvm.Cond.instantiable "CodeExchange$Wide" (3 : Nat)) ∈ lw_all := lw_g (lw_at lw_m3 22 rfl) rfl
theorem q600 : (Jvm.Cond.instanceMethod ({ cls := "CodeExchange$Wide", name := "<init>", desc := "()V" } : Jvm.MethodName)) ∈ lw_all := lw_g (lw_at lw_m3 24 rfl) rfl
theorem q601 : (Jvm.Cond.code ({ cls := "CodeExchange$Wide", name := "<init>", desc := "()V" } : Jvm.MethodName) prog_14_method_1_code (1 : Nat) (Option.none : Option Jvm.ClassFile.FieldType)) ∈ lw_all := lw_g (lw_at lw_m3 25 rfl) rfl
theorem q602 : (Jvm.Cond.methodLinkNest "CodeExchange$Wide" (1 : Nat) ({ cls := "CodeExchange$Form", name := "<init>", desc := "()V" } : Jvm.MethodName) "CodeExchange") ∈ lw_tbl := lw_at lw_m3 26 rfl
theorem q606 : (Jvm.Cond.lays "CodeExchange$Wide" "CodeExchange$Page" "hitPoint" "I") ∈ lw_all := lw_g (lw_at lw_m3 30 rfl) rfl
theorem q607 : (Jvm.Cond.lays "CodeExchange$Wide" "CodeExchange$Page" "hitGoal" "I") ∈ lw_all := lw_g (lw_at lw_m3 31 rfl) rfl
theorem q608 : (Jvm.Cond.lays "CodeExchange$Wide" "CodeExchange$Page" "hitSticky" "Z") ∈ lw_all := lw_g (lw_at lw_m3 32 rfl) rfl
theorem q609 : (Jvm.Cond.superclass "CodeExchange$Wide" "CodeExchange$Form") ∈ lw_all := lw_g (lw_at lw_m3 33 rfl) rfl
theorem q869 : (Jvm.Cond.selects "CodeExchange$Wide" ({ cls := "CodeExchange$Page", name := "kind", desc := "()I" } : Jvm.MethodName) ({ cls := "CodeExchange$Wide", name := "kind", desc := "()I" } : Jvm.MethodName)) ∈ lw_all := lw_g (lw_at lw_m4 53 rfl) rfl
theorem q870 : (Jvm.Cond.instanceMethod ({ cls := "CodeExchange$Wide", name := "kind", desc := "()I" } : Jvm.MethodName)) ∈ lw_all := lw_g (lw_at lw_m4 54 rfl) rfl
theorem q871 : (Jvm.Cond.code ({ cls := "CodeExchange$Wide", name := "kind", desc := "()I" } : Jvm.MethodName) prog_14_method_2_code (1 : Nat) (Option.some Jvm.ClassFile.FieldType.int)) ∈ lw_all := lw_g (lw_at lw_m4 55 rfl) rfl
theorem q882 : (Jvm.Cond.selects "CodeExchange$Wide" ({ cls := "CodeExchange$Page", name := "isClosed", desc := "()Z" } : Jvm.MethodName) ({ cls := "CodeExchange$Form", name := "isClosed", desc := "()Z" } : Jvm.MethodName)) ∈ lw_all := lw_g (lw_at lw_m4 66 rfl) rfl
theorem q922 : (Jvm.Cond.instanceMethod ({ cls := "CodeExchange$Wide", name := "code", desc := "(I)J" } : Jvm.MethodName)) ∈ lw_all := lw_g (lw_at lw_m4 106 rfl) rfl
theorem q923 : (Jvm.Cond.code ({ cls := "CodeExchange$Wide", name := "code", desc := "(I)J" } : Jvm.MethodName) prog_14_method_6_code (2 : Nat) (Option.some Jvm.ClassFile.FieldType.long)) ∈ lw_all := lw_g (lw_at lw_m4 107 rfl) rfl
theorem q924 : (Jvm.Cond.constant "CodeExchange$Wide" (33 : Nat) (65536 : Int32)) ∈ lw_all := lw_g (lw_at lw_m4 108 rfl) rfl
theorem q925 : (Jvm.Cond.methodLink "CodeExchange$Wide" (34 : Nat) ({ cls := "CodeExchange$Wide", name := "told", desc := "(JI)J" } : Jvm.MethodName)) ∈ lw_all := lw_g (lw_at lw_m4 109 rfl) rfl
theorem q926 : (Jvm.Cond.sameMethod "CodeExchange$Wide" "CodeExchange$Form" "told" "(JI)J") ∈ lw_all := lw_g (lw_at lw_m4 110 rfl) rfl
theorem q927 : (Jvm.Cond.constantLong "CodeExchange$Wide" (38 : Nat) (55296 : Int64)) ∈ lw_all := lw_g (lw_at lw_m4 111 rfl) rfl
theorem q928 : (Jvm.Cond.constant "CodeExchange$Wide" (40 : Nat) (56320 : Int32)) ∈ lw_all := lw_g (lw_at lw_m4 112 rfl) rfl
theorem q932 : (Jvm.Cond.selects "CodeExchange$Wide" ({ cls := "CodeExchange$Page", name := "code", desc := "(I)J" } : Jvm.MethodName) ({ cls := "CodeExchange$Wide", name := "code", desc := "(I)J" } : Jvm.MethodName)) ∈ lw_all := lw_g (lw_at lw_m4 116 rfl) rfl
theorem q1007 : (Jvm.Cond.instanceMethod ({ cls := "CodeExchange$Wide", name := "whole", desc := "([II)I" } : Jvm.MethodName)) ∈ lw_all := lw_g (lw_at lw_m4 191 rfl) rfl
theorem q1008 : (Jvm.Cond.code ({ cls := "CodeExchange$Wide", name := "whole", desc := "([II)I" } : Jvm.MethodName) prog_14_method_4_code (5 : Nat) (Option.some Jvm.ClassFile.FieldType.int)) ∈ lw_all := lw_g (lw_at lw_m4 192 rfl) rfl
theorem q1009 : (Jvm.Cond.methodLink "CodeExchange$Wide" (7 : Nat) ({ cls := "CodeExchange$Wide", name := "unit", desc := "([II)I" } : Jvm.MethodName)) ∈ lw_all := lw_g (lw_at lw_m4 193 rfl) rfl
theorem q1010 : (Jvm.Cond.instanceMethod ({ cls := "CodeExchange$Wide", name := "unit", desc := "([II)I" } : Jvm.MethodName)) ∈ lw_all := lw_g (lw_at lw_m4 194 rfl) rfl
theorem q1011 : (Jvm.Cond.selects "CodeExchange$Wide" ({ cls := "CodeExchange$Wide", name := "unit", desc := "([II)I" } : Jvm.MethodName) ({ cls := "CodeExchange$Wide", name := "unit", desc := "([II)I" } : Jvm.MethodName)) ∈ lw_all := lw_g (lw_at lw_m4 195 rfl) rfl
theorem q1012 : (Jvm.Cond.sameMethod "CodeExchange$Wide" "CodeExchange$Wide" "unit" "([II)I") ∈ lw_all := lw_g (lw_at lw_m4 196 rfl) rfl
theorem q1016 : (Jvm.Cond.code ({ cls := "CodeExchange$Wide", name := "unit", desc := "([II)I" } : Jvm.MethodName) prog_14_method_3_code (3 : Nat) (Option.some Jvm.ClassFile.FieldType.int)) ∈ lw_all := lw_g (lw_at lw_m4 200 rfl) rfl
theorem q1017 : (Jvm.Cond.methodLinkNest "CodeExchange$Wide" (13 : Nat) ({ cls := "CodeExchange", name := "isPoint", desc := "(I)Z" } : Jvm.MethodName) "CodeExchange") ∈ lw_tbl := lw_at lw_m4 201 rfl
theorem q1018 : (Jvm.Cond.methodLinkNest "CodeExchange$Wide" (19 : Nat) ({ cls := "CodeExchange", name := "isHigh", desc := "(I)Z" } : Jvm.MethodName) "CodeExchange") ∈ lw_tbl := lw_at lw_m4 202 rfl
theorem q1022 : (Jvm.Cond.methodLinkNest "CodeExchange$Wide" (22 : Nat) ({ cls := "CodeExchange", name := "isLow", desc := "(I)Z" } : Jvm.MethodName) "CodeExchange") ∈ lw_tbl := lw_at lw_m4 206 rfl
theorem q1026 : (Jvm.Cond.methodLinkNest "CodeExchange$Wide" (25 : Nat) ({ cls := "CodeExchange", name := "paired", desc := "(II)I" } : Jvm.MethodName) "CodeExchange") ∈ lw_tbl := lw_at lw_m4 210 rfl
theorem q1030 : (Jvm.Cond.selects "CodeExchange$Wide" ({ cls := "CodeExchange$Form", name := "whole", desc := "([II)I" } : Jvm.MethodName) ({ cls := "CodeExchange$Wide", name := "whole", desc := "([II)I" } : Jvm.MethodName)) ∈ lw_all := lw_g (lw_at lw_m4 214 rfl) rfl
theorem q1042 : (Jvm.Cond.selects "CodeExchange$Wide" ({ cls := "CodeExchange$Form", name := "begins", desc := "([II)Z" } : Jvm.MethodName) ({ cls := "CodeExchange$Wide", name := "begins", desc := "([II)Z" } : Jvm.MethodName)) ∈ lw_all := lw_g (lw_at lw_m4 226 rfl) rfl
theorem q1043 : (Jvm.Cond.instanceMethod ({ cls := "CodeExchange$Wide", name := "begins", desc := "([II)Z" } : Jvm.MethodName)) ∈ lw_all := lw_g (lw_at lw_m4 227 rfl) rfl
theorem q1044 : (Jvm.Cond.code ({ cls := "CodeExchange$Wide", name := "begins", desc := "([II)Z" } : Jvm.MethodName) prog_14_method_5_code (3 : Nat) (Option.some Jvm.ClassFile.FieldType.boolean)) ∈ lw_all := lw_g (lw_at lw_m4 228 rfl) rfl
theorem q1045 : (Jvm.Cond.methodLinkNest "CodeExchange$Wide" (29 : Nat) ({ cls := "CodeExchange", name := "in", desc := "(III)Z" } : Jvm.MethodName) "CodeExchange") ∈ lw_tbl := lw_at lw_m4 229 rfl
theorem q1053 : (Jvm.Cond.sameMethod "CodeExchange$Wide" "CodeExchange$Form" "match" "(II[II)I") ∈ lw_all := lw_g (lw_at lw_m4 237 rfl) rfl
theorem q1055 : (Jvm.Cond.selects "CodeExchange$Wide" ({ cls := "CodeExchange$Page", name := "match", desc := "(II[II)I" } : Jvm.MethodName) ({ cls := "CodeExchange$Form", name := "match", desc := "(II[II)I" } : Jvm.MethodName)) ∈ lw_all := lw_g (lw_at lw_m4 239 rfl) rfl
theorem q1121 : (Jvm.Cond.selects "CodeExchange$Wide" ({ cls := "CodeExchange$Page", name := "way", desc := "(II)J" } : Jvm.MethodName) ({ cls := "CodeExchange$Page", name := "way", desc := "(II)J" } : Jvm.MethodName)) ∈ lw_all := lw_g (lw_at lw_m5 65 rfl) rfl
theorem q1138 : (Jvm.Cond.selects "CodeExchange$Wide" ({ cls := "CodeExchange$Page", name := "behind", desc := "(II)I" } : Jvm.MethodName) ({ cls := "CodeExchange$Page", name := "behind", desc := "(II)I" } : Jvm.MethodName)) ∈ lw_all := lw_g (lw_at lw_m5 82 rfl) rfl
theorem q1178 : (Jvm.Cond.selects "CodeExchange$Wide" ({ cls := "CodeExchange$Page", name := "end", desc := "(I)J" } : Jvm.MethodName) ({ cls := "CodeExchange$Page", name := "end", desc := "(I)J" } : Jvm.MethodName)) ∈ lw_all := lw_g (lw_at lw_m5 122 rfl) rfl
theorem q1296 : (Jvm.Cond.selects "CodeExchange$Wide" ({ cls := "CodeExchange$Page", name := "coverage", desc := "(II)I" } : Jvm.MethodName) ({ cls := "CodeExchange$Page", name := "coverage", desc := "(II)I" } : Jvm.MethodName)) ∈ lw_all := lw_g (lw_at lw_m6 0 rfl) rfl
theorem q1342 : (Jvm.Cond.selects "CodeExchange$Wide" ({ cls := "CodeExchange$Page", name := "isReached", desc := "(I)Z" } : Jvm.MethodName) ({ cls := "CodeExchange$Page", name := "isReached", desc := "(I)Z" } : Jvm.MethodName)) ∈ lw_all := lw_g (lw_at lw_m6 46 rfl) rfl
theorem q1962 : (Jvm.Cond.sameMethod "CodeExchange$Wide" "CodeExchange$Wide" "code" "(I)J") ∈ lw_all := lw_g (lw_at lw_m8 186 rfl) rfl
theorem q1968 : (Jvm.Cond.castable "CodeExchange$Wide" "CodeExchange$Page") ∈ lw_tbl := lw_at lw_m8 192 rfl
theorem in_X11 : ∀ w ∈ wsX110, w ∈ lw_all := lw_in wsX110 [606, 607, 608] (by decide +kernel) (by decide +kernel)
/-! CodeExchange$Turned -/
set_option maxRecDepth 100000
def RX12 : String := "CodeExchange$Turned"
def TX12 : u_T := fun k => match k with
  | 0 => ("CodeExchange$Page", "hitPoint", "I", false)
  | 1 => ("CodeExchange$Page", "hitGoal", "I", false)
  | _ => ("CodeExchange$Page", "hitSticky", "Z", false)
def tyX12 : Nat → FieldType := fun k => match k with
  | 0 => .int
  | 1 => .int
  | _ => .boolean
abbrev wsX120 : List Cond := u_ws RX12 TX12 3
theorem nmX12 : ∀ a, a < 3 → ∀ b, b < 3 → a ≠ b → (TX12 a).2.1 ≠ (TX12 b).2.1 := by decide +kernel
theorem tyX12_ok : ∀ k, k < 3 → parseFieldDescriptor (TX12 k).2.2.1 = some (tyX12 k) := by decide +kernel
abbrev cX12_init : ByteArray := prog_13_method_1_code
def yX12_init : MethodName := ⟨RX12, "<init>", "()V"⟩
theorem dX12_init_0 : decode cX12_init 0 = .ok (.aload_n 0, 1) := by decide +kernel
theorem dX12_init_1 : decode cX12_init 1 = .ok (.invokespecial 1, 3) := by decide +kernel
theorem dX12_init_4 : decode cX12_init 4 = .ok (.return_, 1) := by decide +kernel
abbrev cX12_kind : ByteArray := prog_13_method_2_code
def yX12_kind : MethodName := ⟨RX12, "kind", "()I"⟩
theorem dX12_kind_0 : decode cX12_kind 0 = .ok (.iconst 2, 1) := by decide +kernel
theorem dX12_kind_1 : decode cX12_kind 1 = .ok (.ireturn, 1) := by decide +kernel
abbrev cX12_code : ByteArray := prog_13_method_6_code
def yX12_code : MethodName := ⟨RX12, "code", "(I)J"⟩
def dkwX12_code_1 : List UInt8 := [127, 16, 8, 121, 129, 173]
abbrev dktX12_code_1 : List UInt8 := dkwX12_code_1 ++ []
def dkwX12_code_0 : List UInt8 := [42, 27, 183, 0, 23, 65, 32, 20, 0, 27, 127, 32, 20, 0, 29, 127, 16, 8, 123, 129, 32, 20, 0, 31]
abbrev dktX12_code_0 : List UInt8 := dkwX12_code_0 ++ dktX12_code_1
theorem dksX12_code_0 : cX12_code.data.toList.drop 0 = dktX12_code_0 := by decide +kernel
theorem dksX12_code_1 : cX12_code.data.toList.drop 24 = dktX12_code_1 := dk_seg dksX12_code_0 24 rfl rfl
theorem dX12_code_0 : decode cX12_code 0 = .ok (.aload_n 0, 1) := dk_42 (dk_at dksX12_code_0 0 rfl rfl)
theorem dX12_code_1 : decode cX12_code 1 = .ok (.iload_n 1, 1) := dk_27 (dk_at dksX12_code_0 1 rfl rfl)
theorem dX12_code_2 : decode cX12_code 2 = .ok (.invokespecial 23, 3) := dk_183 0 23 (dk_at dksX12_code_0 2 rfl rfl)
theorem dX12_code_5 : decode cX12_code 5 = .ok (.lstore_n 2, 1) := dk_65 (dk_at dksX12_code_0 5 rfl rfl)
theorem dX12_code_6 : decode cX12_code 6 = .ok (.lload_n 2, 1) := dk_32 (dk_at dksX12_code_0 6 rfl rfl)
theorem dX12_code_7 : decode cX12_code 7 = .ok (.ldc2_w 27, 3) := dk_20 0 27 (dk_at dksX12_code_0 7 rfl rfl)
theorem dX12_code_10 : decode cX12_code 10 = .ok (.land, 1) := dk_127 (dk_at dksX12_code_0 10 rfl rfl)
theorem dX12_code_11 : decode cX12_code 11 = .ok (.lload_n 2, 1) := dk_32 (dk_at dksX12_code_0 11 rfl rfl)
theorem dX12_code_12 : decode cX12_code 12 = .ok (.ldc2_w 29, 3) := dk_20 0 29 (dk_at dksX12_code_0 12 rfl rfl)
theorem dX12_code_15 : decode cX12_code 15 = .ok (.land, 1) := dk_127 (dk_at dksX12_code_0 15 rfl rfl)
theorem dX12_code_16 : decode cX12_code 16 = .ok (.bipush 8, 2) := dk_16 8 (dk_at dksX12_code_0 16 rfl rfl)
theorem dX12_code_18 : decode cX12_code 18 = .ok (.lshr, 1) := dk_123 (dk_at dksX12_code_0 18 rfl rfl)
theorem dX12_code_19 : decode cX12_code 19 = .ok (.lor, 1) := dk_129 (dk_at dksX12_code_0 19 rfl rfl)
theorem dX12_code_20 : decode cX12_code 20 = .ok (.lload_n 2, 1) := dk_32 (dk_at dksX12_code_0 20 rfl rfl)
theorem dX12_code_21 : decode cX12_code 21 = .ok (.ldc2_w 31, 3) := dk_20 0 31 (dk_at dksX12_code_0 21 rfl rfl)
theorem dX12_code_24 : decode cX12_code 24 = .ok (.land, 1) := dk_127 (dk_at dksX12_code_1 0 rfl rfl)
theorem dX12_code_25 : decode cX12_code 25 = .ok (.bipush 8, 2) := dk_16 8 (dk_at dksX12_code_1 1 rfl rfl)
theorem dX12_code_27 : decode cX12_code 27 = .ok (.lshl, 1) := dk_121 (dk_at dksX12_code_1 3 rfl rfl)
theorem dX12_code_28 : decode cX12_code 28 = .ok (.lor, 1) := dk_129 (dk_at dksX12_code_1 4 rfl rfl)
theorem dX12_code_29 : decode cX12_code 29 = .ok (.lreturn, 1) := dk_173 (dk_at dksX12_code_1 5 rfl rfl)
abbrev cX12_unit : ByteArray := prog_13_method_3_code
def yX12_unit : MethodName := ⟨RX12, "unit", "([II)I"⟩
def dkwX12_unit_0 : List UInt8 := [43, 28, 4, 96, 46, 16, 8, 120, 43, 28, 46, 128, 172]
abbrev dktX12_unit_0 : List UInt8 := dkwX12_unit_0 ++ []
theorem dksX12_unit_0 : cX12_unit.data.toList.drop 0 = dktX12_unit_0 := by decide +kernel
theorem dX12_unit_0 : decode cX12_unit 0 = .ok (.aload_n 1, 1) := dk_43 (dk_at dksX12_unit_0 0 rfl rfl)
theorem dX12_unit_1 : decode cX12_unit 1 = .ok (.iload_n 2, 1) := dk_28 (dk_at dksX12_unit_0 1 rfl rfl)
theorem dX12_unit_2 : decode cX12_unit 2 = .ok (.iconst 1, 1) := dk_4 (dk_at dksX12_unit_0 2 rfl rfl)
theorem dX12_unit_3 : decode cX12_unit 3 = .ok (.iadd, 1) := dk_96 (dk_at dksX12_unit_0 3 rfl rfl)
theorem dX12_unit_4 : decode cX12_unit 4 = .ok (.iaload, 1) := dk_46 (dk_at dksX12_unit_0 4 rfl rfl)
theorem dX12_unit_5 : decode cX12_unit 5 = .ok (.bipush 8, 2) := dk_16 8 (dk_at dksX12_unit_0 5 rfl rfl)
theorem dX12_unit_7 : decode cX12_unit 7 = .ok (.ishl, 1) := dk_120 (dk_at dksX12_unit_0 7 rfl rfl)
theorem dX12_unit_8 : decode cX12_unit 8 = .ok (.aload_n 1, 1) := dk_43 (dk_at dksX12_unit_0 8 rfl rfl)
theorem dX12_unit_9 : decode cX12_unit 9 = .ok (.iload_n 2, 1) := dk_28 (dk_at dksX12_unit_0 9 rfl rfl)
theorem dX12_unit_10 : decode cX12_unit 10 = .ok (.iaload, 1) := dk_46 (dk_at dksX12_unit_0 10 rfl rfl)
theorem dX12_unit_11 : decode cX12_unit 11 = .ok (.ior, 1) := dk_128 (dk_at dksX12_unit_0 11 rfl rfl)
theorem dX12_unit_12 : decode cX12_unit 12 = .ok (.ireturn, 1) := dk_172 (dk_at dksX12_unit_0 12 rfl rfl)
abbrev cX12_begins : ByteArray := prog_13_method_4_code
def yX12_begins : MethodName := ⟨RX12, "begins", "([II)Z"⟩
def dkwX12_begins_0 : List UInt8 := [28, 4, 159, 0, 15, 42, 43, 3, 182, 0, 7, 184, 0, 13, 153, 0, 7, 4, 167, 0, 4, 3, 172]
abbrev dktX12_begins_0 : List UInt8 := dkwX12_begins_0 ++ []
theorem dksX12_begins_0 : cX12_begins.data.toList.drop 0 = dktX12_begins_0 := by decide +kernel
theorem dX12_begins_0 : decode cX12_begins 0 = .ok (.iload_n 2, 1) := dk_28 (dk_at dksX12_begins_0 0 rfl rfl)
theorem dX12_begins_1 : decode cX12_begins 1 = .ok (.iconst 1, 1) := dk_4 (dk_at dksX12_begins_0 1 rfl rfl)
theorem dX12_begins_2 : decode cX12_begins 2 = .ok (.if_icmp .eq 15, 3) := dk_159 0 15 (dk_at dksX12_begins_0 2 rfl rfl)
theorem dX12_begins_5 : decode cX12_begins 5 = .ok (.aload_n 0, 1) := dk_42 (dk_at dksX12_begins_0 5 rfl rfl)
theorem dX12_begins_6 : decode cX12_begins 6 = .ok (.aload_n 1, 1) := dk_43 (dk_at dksX12_begins_0 6 rfl rfl)
theorem dX12_begins_7 : decode cX12_begins 7 = .ok (.iconst 0, 1) := dk_3 (dk_at dksX12_begins_0 7 rfl rfl)
theorem dX12_begins_8 : decode cX12_begins 8 = .ok (.invokevirtual 7, 3) := dk_182 0 7 (dk_at dksX12_begins_0 8 rfl rfl)
theorem dX12_begins_11 : decode cX12_begins 11 = .ok (.invokestatic 13, 3) := dk_184 0 13 (dk_at dksX12_begins_0 11 rfl rfl)
theorem dX12_begins_14 : decode cX12_begins 14 = .ok (.ifCond .eq 7, 3) := dk_153 0 7 (dk_at dksX12_begins_0 14 rfl rfl)
theorem dX12_begins_17 : decode cX12_begins 17 = .ok (.iconst 1, 1) := dk_4 (dk_at dksX12_begins_0 17 rfl rfl)
theorem dX12_begins_18 : decode cX12_begins 18 = .ok (.goto 4, 3) := dk_167 0 4 (dk_at dksX12_begins_0 18 rfl rfl)
theorem dX12_begins_21 : decode cX12_begins 21 = .ok (.iconst 0, 1) := dk_3 (dk_at dksX12_begins_0 21 rfl rfl)
theorem dX12_begins_22 : decode cX12_begins 22 = .ok (.ireturn, 1) := dk_172 (dk_at dksX12_begins_0 22 rfl rfl)
abbrev cX12_match : ByteArray := prog_13_method_5_code
def yX12_match : MethodName := ⟨RX12, "match", "(II[II)I"⟩
def dkwX12_match_0 : List UInt8 := [42, 27, 28, 45, 21, 4, 183, 0, 19, 172]
abbrev dktX12_match_0 : List UInt8 := dkwX12_match_0 ++ []
theorem dksX12_match_0 : cX12_match.data.toList.drop 0 = dktX12_match_0 := by decide +kernel
theorem dX12_match_0 : decode cX12_match 0 = .ok (.aload_n 0, 1) := dk_42 (dk_at dksX12_match_0 0 rfl rfl)
theorem dX12_match_1 : decode cX12_match 1 = .ok (.iload_n 1, 1) := dk_27 (dk_at dksX12_match_0 1 rfl rfl)
theorem dX12_match_2 : decode cX12_match 2 = .ok (.iload_n 2, 1) := dk_28 (dk_at dksX12_match_0 2 rfl rfl)
theorem dX12_match_3 : decode cX12_match 3 = .ok (.aload_n 3, 1) := dk_45 (dk_at dksX12_match_0 3 rfl rfl)
theorem dX12_match_4 : decode cX12_match 4 = .ok (.iload 4, 2) := dk_21 4 (dk_at dksX12_match_0 4 rfl rfl)
theorem dX12_match_6 : decode cX12_match 6 = .ok (.invokespecial 19, 3) := dk_183 0 19 (dk_at dksX12_match_0 6 rfl rfl)
theorem dX12_match_9 : decode cX12_match 9 = .ok (.ireturn, 1) := dk_172 (dk_at dksX12_match_0 9 rfl rfl)
theorem q112 : (Jvm.Cond.initialized "CodeExchange$Turned") ∈ lw_all := lw_g (lw_at lw_m1 16 rfl) rfl
theorem q611 : (Jvm.Cond.instantiable "CodeExchange$Turned" (3 : Nat)) ∈ lw_all := lw_g (lw_at lw_m3 35 rfl) rfl
theorem q613 : (Jvm.Cond.instanceMethod ({ cls := "CodeExchange$Turned", name := "<init>", desc := "()V" } : Jvm.MethodName)) ∈ lw_all := lw_g (lw_at lw_m3 37 rfl) rfl
theorem q614 : (Jvm.Cond.code ({ cls := "CodeExchange$Turned", name := "<init>", desc := "()V" } : Jvm.MethodName) prog_13_method_1_code (1 : Nat) (Option.none : Option Jvm.ClassFile.FieldType)) ∈ lw_all := lw_g (lw_at lw_m3 38 rfl) rfl
theorem q615 : (Jvm.Cond.methodLinkNest "CodeExchange$Turned" (1 : Nat) ({ cls := "CodeExchange$Wide", name := "<init>", desc := "()V" } : Jvm.MethodName) "CodeExchange") ∈ lw_tbl := lw_at lw_m3 39 rfl
theorem q616 : (Jvm.Cond.lays "CodeExchange$Turned" "CodeExchange$Page" "hitPoint" "I") ∈ lw_all := lw_g (lw_at lw_m3 40 rfl) rfl
theorem q617 : (Jvm.Cond.lays "CodeExchange$Turned" "CodeExchange$Page" "hitGoal" "I") ∈ lw_all := lw_g (lw_at lw_m3 41 rfl) rfl
theorem q618 : (Jvm.Cond.lays "CodeExchange$Turned" "CodeExchange$Page" "hitSticky" "Z") ∈ lw_all := lw_g (lw_at lw_m3 42 rfl) rfl
theorem q619 : (Jvm.Cond.superclass "CodeExchange$Turned" "CodeExchange$Wide") ∈ lw_all := lw_g (lw_at lw_m3 43 rfl) rfl
theorem q866 : (Jvm.Cond.selects "CodeExchange$Turned" ({ cls := "CodeExchange$Page", name := "kind", desc := "()I" } : Jvm.MethodName) ({ cls := "CodeExchange$Turned", name := "kind", desc := "()I" } : Jvm.MethodName)) ∈ lw_all := lw_g (lw_at lw_m4 50 rfl) rfl
theorem q867 : (Jvm.Cond.instanceMethod ({ cls := "CodeExchange$Turned", name := "kind", desc := "()I" } : Jvm.MethodName)) ∈ lw_all := lw_g (lw_at lw_m4 51 rfl) rfl
theorem q868 : (Jvm.Cond.code ({ cls := "CodeExchange$Turned", name := "kind", desc := "()I" } : Jvm.MethodName) prog_13_method_2_code (1 : Nat) (Option.some Jvm.ClassFile.FieldType.int)) ∈ lw_all := lw_g (lw_at lw_m4 52 rfl) rfl
theorem q881 : (Jvm.Cond.selects "CodeExchange$Turned" ({ cls := "CodeExchange$Page", name := "isClosed", desc := "()Z" } : Jvm.MethodName) ({ cls := "CodeExchange$Form", name := "isClosed", desc := "()Z" } : Jvm.MethodName)) ∈ lw_all := lw_g (lw_at lw_m4 65 rfl) rfl
theorem q918 : (Jvm.Cond.selects "CodeExchange$Turned" ({ cls := "CodeExchange$Page", name := "code", desc := "(I)J" } : Jvm.MethodName) ({ cls := "CodeExchange$Turned", name := "code", desc := "(I)J" } : Jvm.MethodName)) ∈ lw_all := lw_g (lw_at lw_m4 102 rfl) rfl
theorem q919 : (Jvm.Cond.instanceMethod ({ cls := "CodeExchange$Turned", name := "code", desc := "(I)J" } : Jvm.MethodName)) ∈ lw_all := lw_g (lw_at lw_m4 103 rfl) rfl
theorem q920 : (Jvm.Cond.code ({ cls := "CodeExchange$Turned", name := "code", desc := "(I)J" } : Jvm.MethodName) prog_13_method_6_code (4 : Nat) (Option.some Jvm.ClassFile.FieldType.long)) ∈ lw_all := lw_g (lw_at lw_m4 104 rfl) rfl
theorem q921 : (Jvm.Cond.methodLink "CodeExchange$Turned" (23 : Nat) ({ cls := "CodeExchange$Wide", name := "code", desc := "(I)J" } : Jvm.MethodName)) ∈ lw_all := lw_g (lw_at lw_m4 105 rfl) rfl
theorem q929 : (Jvm.Cond.constantLong "CodeExchange$Turned" (27 : Nat) (30064771072 : Int64)) ∈ lw_all := lw_g (lw_at lw_m4 113 rfl) rfl
theorem q930 : (Jvm.Cond.constantLong "CodeExchange$Turned" (29 : Nat) (4278255360 : Int64)) ∈ lw_all := lw_g (lw_at lw_m4 114 rfl) rfl
theorem q931 : (Jvm.Cond.constantLong "CodeExchange$Turned" (31 : Nat) (16711935 : Int64)) ∈ lw_all := lw_g (lw_at lw_m4 115 rfl) rfl
theorem q1006 : (Jvm.Cond.selects "CodeExchange$Turned" ({ cls := "CodeExchange$Form", name := "whole", desc := "([II)I" } : Jvm.MethodName) ({ cls := "CodeExchange$Wide", name := "whole", desc := "([II)I" } : Jvm.MethodName)) ∈ lw_all := lw_g (lw_at lw_m4 190 rfl) rfl
theorem q1013 : (Jvm.Cond.selects "CodeExchange$Turned" ({ cls := "CodeExchange$Wide", name := "unit", desc := "([II)I" } : Jvm.MethodName) ({ cls := "CodeExchange$Turned", name := "unit", desc := "([II)I" } : Jvm.MethodName)) ∈ lw_all := lw_g (lw_at lw_m4 197 rfl) rfl
theorem q1014 : (Jvm.Cond.instanceMethod ({ cls := "CodeExchange$Turned", name := "unit", desc := "([II)I" } : Jvm.MethodName)) ∈ lw_all := lw_g (lw_at lw_m4 198 rfl) rfl
theorem q1015 : (Jvm.Cond.code ({ cls := "CodeExchange$Turned", name := "unit", desc := "([II)I" } : Jvm.MethodName) prog_13_method_3_code (3 : Nat) (Option.some Jvm.ClassFile.FieldType.int)) ∈ lw_all := lw_g (lw_at lw_m4 199 rfl) rfl
theorem q1037 : (Jvm.Cond.selects "CodeExchange$Turned" ({ cls := "CodeExchange$Form", name := "begins", desc := "([II)Z" } : Jvm.MethodName) ({ cls := "CodeExchange$Turned", name := "begins", desc := "([II)Z" } : Jvm.MethodName)) ∈ lw_all := lw_g (lw_at lw_m4 221 rfl) rfl
theorem q1038 : (Jvm.Cond.instanceMethod ({ cls := "CodeExchange$Turned", name := "begins", desc := "([II)Z" } : Jvm.MethodName)) ∈ lw_all := lw_g (lw_at lw_m4 222 rfl) rfl
theorem q1039 : (Jvm.Cond.code ({ cls := "CodeExchange$Turned", name := "begins", desc := "([II)Z" } : Jvm.MethodName) prog_13_method_4_code (3 : Nat) (Option.some Jvm.ClassFile.FieldType.boolean)) ∈ lw_all := lw_g (lw_at lw_m4 223 rfl) rfl
theorem q1040 : (Jvm.Cond.methodLink "CodeExchange$Turned" (7 : Nat) ({ cls := "CodeExchange$Turned", name := "unit", desc := "([II)I" } : Jvm.MethodName)) ∈ lw_all := lw_g (lw_at lw_m4 224 rfl) rfl
theorem q1041 : (Jvm.Cond.methodLinkNest "CodeExchange$Turned" (13 : Nat) ({ cls := "CodeExchange", name := "isHigh", desc := "(I)Z" } : Jvm.MethodName) "CodeExchange") ∈ lw_tbl := lw_at lw_m4 225 rfl
theorem q1049 : (Jvm.Cond.selects "CodeExchange$Turned" ({ cls := "CodeExchange$Page", name := "match", desc := "(II[II)I" } : Jvm.MethodName) ({ cls := "CodeExchange$Turned", name := "match", desc := "(II[II)I" } : Jvm.MethodName)) ∈ lw_all := lw_g (lw_at lw_m4 233 rfl) rfl
theorem q1050 : (Jvm.Cond.instanceMethod ({ cls := "CodeExchange$Turned", name := "match", desc := "(II[II)I" } : Jvm.MethodName)) ∈ lw_all := lw_g (lw_at lw_m4 234 rfl) rfl
theorem q1051 : (Jvm.Cond.code ({ cls := "CodeExchange$Turned", name := "match", desc := "(II[II)I" } : Jvm.MethodName) prog_13_method_5_code (5 : Nat) (Option.some Jvm.ClassFile.FieldType.int)) ∈ lw_all := lw_g (lw_at lw_m4 235 rfl) rfl
theorem q1052 : (Jvm.Cond.methodLink "CodeExchange$Turned" (19 : Nat) ({ cls := "CodeExchange$Wide", name := "match", desc := "(II[II)I" } : Jvm.MethodName)) ∈ lw_all := lw_g (lw_at lw_m4 236 rfl) rfl
theorem q1120 : (Jvm.Cond.selects "CodeExchange$Turned" ({ cls := "CodeExchange$Page", name := "way", desc := "(II)J" } : Jvm.MethodName) ({ cls := "CodeExchange$Page", name := "way", desc := "(II)J" } : Jvm.MethodName)) ∈ lw_all := lw_g (lw_at lw_m5 64 rfl) rfl
theorem q1137 : (Jvm.Cond.selects "CodeExchange$Turned" ({ cls := "CodeExchange$Page", name := "behind", desc := "(II)I" } : Jvm.MethodName) ({ cls := "CodeExchange$Page", name := "behind", desc := "(II)I" } : Jvm.MethodName)) ∈ lw_all := lw_g (lw_at lw_m5 81 rfl) rfl
theorem q1177 : (Jvm.Cond.selects "CodeExchange$Turned" ({ cls := "CodeExchange$Page", name := "end", desc := "(I)J" } : Jvm.MethodName) ({ cls := "CodeExchange$Page", name := "end", desc := "(I)J" } : Jvm.MethodName)) ∈ lw_all := lw_g (lw_at lw_m5 121 rfl) rfl
theorem q1295 : (Jvm.Cond.selects "CodeExchange$Turned" ({ cls := "CodeExchange$Page", name := "coverage", desc := "(II)I" } : Jvm.MethodName) ({ cls := "CodeExchange$Page", name := "coverage", desc := "(II)I" } : Jvm.MethodName)) ∈ lw_all := lw_g (lw_at lw_m5 239 rfl) rfl
theorem q1341 : (Jvm.Cond.selects "CodeExchange$Turned" ({ cls := "CodeExchange$Page", name := "isReached", desc := "(I)Z" } : Jvm.MethodName) ({ cls := "CodeExchange$Page", name := "isReached", desc := "(I)Z" } : Jvm.MethodName)) ∈ lw_all := lw_g (lw_at lw_m6 45 rfl) rfl
theorem q1963 : (Jvm.Cond.selects "CodeExchange$Turned" ({ cls := "CodeExchange$Turned", name := "unit", desc := "([II)I" } : Jvm.MethodName) ({ cls := "CodeExchange$Turned", name := "unit", desc := "([II)I" } : Jvm.MethodName)) ∈ lw_all := lw_g (lw_at lw_m8 187 rfl) rfl
theorem q1967 : (Jvm.Cond.castable "CodeExchange$Turned" "CodeExchange$Page") ∈ lw_tbl := lw_at lw_m8 191 rfl
theorem in_X12 : ∀ w ∈ wsX120, w ∈ lw_all := lw_in wsX120 [616, 617, 618] (by decide +kernel) (by decide +kernel)
/-! CodeExchange$Few -/
set_option maxRecDepth 100000
def RX13 : String := "CodeExchange$Few"
def TX13 : u_T := fun k => match k with
  | 0 => ("CodeExchange$Page", "hitPoint", "I", false)
  | 1 => ("CodeExchange$Page", "hitGoal", "I", false)
  | _ => ("CodeExchange$Page", "hitSticky", "Z", false)
def tyX13 : Nat → FieldType := fun k => match k with
  | 0 => .int
  | 1 => .int
  | _ => .boolean
abbrev wsX130 : List Cond := u_ws RX13 TX13 3
theorem nmX13 : ∀ a, a < 3 → ∀ b, b < 3 → a ≠ b → (TX13 a).2.1 ≠ (TX13 b).2.1 := by decide +kernel
theorem tyX13_ok : ∀ k, k < 3 → parseFieldDescriptor (TX13 k).2.2.1 = some (tyX13 k) := by decide +kernel
abbrev cX13_init : ByteArray := prog_2_method_1_code
def yX13_init : MethodName := ⟨RX13, "<init>", "()V"⟩
theorem dX13_init_0 : decode cX13_init 0 = .ok (.aload_n 0, 1) := by decide +kernel
theorem dX13_init_1 : decode cX13_init 1 = .ok (.invokespecial 1, 3) := by decide +kernel
theorem dX13_init_4 : decode cX13_init 4 = .ok (.return_, 1) := by decide +kernel
abbrev cX13_kind : ByteArray := prog_2_method_2_code
def yX13_kind : MethodName := ⟨RX13, "kind", "()I"⟩
theorem dX13_kind_0 : decode cX13_kind 0 = .ok (.iconst 3, 1) := by decide +kernel
theorem dX13_kind_1 : decode cX13_kind 1 = .ok (.ireturn, 1) := by decide +kernel
abbrev cX13_code : ByteArray := prog_2_method_8_code
def yX13_code : MethodName := ⟨RX13, "code", "(I)J"⟩
def dkwX13_code_5 : List UInt8 := [173]
abbrev dktX13_code_5 : List UInt8 := dkwX13_code_5 ++ []
def dkwX13_code_4 : List UInt8 := [27, 16, 6, 21, 5, 104, 122, 16, 63, 126, 133, 129, 66, 132, 5, 255, 167, 255, 227, 33, 28, 184, 0, 27]
abbrev dktX13_code_4 : List UInt8 := dkwX13_code_4 ++ dktX13_code_5
def dkwX13_code_3 : List UInt8 := [100, 104, 122, 133, 129, 66, 28, 5, 100, 54, 5, 21, 5, 155, 0, 30, 33, 16, 8, 121, 20, 0, 38, 129]
abbrev dktX13_code_3 : List UInt8 := dkwX13_code_3 ++ dktX13_code_4
def dkwX13_code_2 : List UInt8 := [167, 0, 17, 28, 6, 160, 0, 9, 20, 0, 34, 167, 0, 6, 20, 0, 36, 66, 33, 27, 16, 6, 28, 4]
abbrev dktX13_code_2 : List UInt8 := dkwX13_code_2 ++ dktX13_code_3
def dkwX13_code_1 : List UInt8 := [167, 0, 14, 27, 18, 31, 162, 0, 7, 6, 167, 0, 4, 7, 61, 28, 5, 160, 0, 9, 20, 0, 32]
abbrev dktX13_code_1 : List UInt8 := dkwX13_code_1 ++ dktX13_code_2
def dkwX13_code_0 : List UInt8 := [27, 17, 0, 128, 162, 0, 10, 27, 133, 4, 184, 0, 27, 173, 27, 17, 8, 0, 162, 0, 7, 5]
abbrev dktX13_code_0 : List UInt8 := dkwX13_code_0 ++ dktX13_code_1
theorem dksX13_code_0 : cX13_code.data.toList.drop 0 = dktX13_code_0 := by decide +kernel
theorem dksX13_code_1 : cX13_code.data.toList.drop 22 = dktX13_code_1 := dk_seg dksX13_code_0 22 rfl rfl
theorem dksX13_code_2 : cX13_code.data.toList.drop 45 = dktX13_code_2 := dk_seg dksX13_code_1 23 rfl rfl
theorem dksX13_code_3 : cX13_code.data.toList.drop 69 = dktX13_code_3 := dk_seg dksX13_code_2 24 rfl rfl
theorem dksX13_code_4 : cX13_code.data.toList.drop 93 = dktX13_code_4 := dk_seg dksX13_code_3 24 rfl rfl
theorem dksX13_code_5 : cX13_code.data.toList.drop 117 = dktX13_code_5 := dk_seg dksX13_code_4 24 rfl rfl
theorem dX13_code_0 : decode cX13_code 0 = .ok (.iload_n 1, 1) := dk_27 (dk_at dksX13_code_0 0 rfl rfl)
theorem dX13_code_1 : decode cX13_code 1 = .ok (.sipush 128, 3) := dk_17 0 128 (dk_at dksX13_code_0 1 rfl rfl)
theorem dX13_code_4 : decode cX13_code 4 = .ok (.if_icmp .ge 10, 3) := dk_162 0 10 (dk_at dksX13_code_0 4 rfl rfl)
theorem dX13_code_7 : decode cX13_code 7 = .ok (.iload_n 1, 1) := dk_27 (dk_at dksX13_code_0 7 rfl rfl)
theorem dX13_code_8 : decode cX13_code 8 = .ok (.i2l, 1) := dk_133 (dk_at dksX13_code_0 8 rfl rfl)
theorem dX13_code_9 : decode cX13_code 9 = .ok (.iconst 1, 1) := dk_4 (dk_at dksX13_code_0 9 rfl rfl)
theorem dX13_code_10 : decode cX13_code 10 = .ok (.invokestatic 27, 3) := dk_184 0 27 (dk_at dksX13_code_0 10 rfl rfl)
theorem dX13_code_13 : decode cX13_code 13 = .ok (.lreturn, 1) := dk_173 (dk_at dksX13_code_0 13 rfl rfl)
theorem dX13_code_14 : decode cX13_code 14 = .ok (.iload_n 1, 1) := dk_27 (dk_at dksX13_code_0 14 rfl rfl)
theorem dX13_code_15 : decode cX13_code 15 = .ok (.sipush 2048, 3) := dk_17 8 0 (dk_at dksX13_code_0 15 rfl rfl)
theorem dX13_code_18 : decode cX13_code 18 = .ok (.if_icmp .ge 7, 3) := dk_162 0 7 (dk_at dksX13_code_0 18 rfl rfl)
theorem dX13_code_21 : decode cX13_code 21 = .ok (.iconst 2, 1) := dk_5 (dk_at dksX13_code_0 21 rfl rfl)
theorem dX13_code_22 : decode cX13_code 22 = .ok (.goto 14, 3) := dk_167 0 14 (dk_at dksX13_code_1 0 rfl rfl)
theorem dX13_code_25 : decode cX13_code 25 = .ok (.iload_n 1, 1) := dk_27 (dk_at dksX13_code_1 3 rfl rfl)
theorem dX13_code_26 : decode cX13_code 26 = .ok (.ldc 31, 2) := dk_18 31 (dk_at dksX13_code_1 4 rfl rfl)
theorem dX13_code_28 : decode cX13_code 28 = .ok (.if_icmp .ge 7, 3) := dk_162 0 7 (dk_at dksX13_code_1 6 rfl rfl)
theorem dX13_code_31 : decode cX13_code 31 = .ok (.iconst 3, 1) := dk_6 (dk_at dksX13_code_1 9 rfl rfl)
theorem dX13_code_32 : decode cX13_code 32 = .ok (.goto 4, 3) := dk_167 0 4 (dk_at dksX13_code_1 10 rfl rfl)
theorem dX13_code_35 : decode cX13_code 35 = .ok (.iconst 4, 1) := dk_7 (dk_at dksX13_code_1 13 rfl rfl)
theorem dX13_code_36 : decode cX13_code 36 = .ok (.istore_n 2, 1) := dk_61 (dk_at dksX13_code_1 14 rfl rfl)
theorem dX13_code_37 : decode cX13_code 37 = .ok (.iload_n 2, 1) := dk_28 (dk_at dksX13_code_1 15 rfl rfl)
theorem dX13_code_38 : decode cX13_code 38 = .ok (.iconst 2, 1) := dk_5 (dk_at dksX13_code_1 16 rfl rfl)
theorem dX13_code_39 : decode cX13_code 39 = .ok (.if_icmp .ne 9, 3) := dk_160 0 9 (dk_at dksX13_code_1 17 rfl rfl)
theorem dX13_code_42 : decode cX13_code 42 = .ok (.ldc2_w 32, 3) := dk_20 0 32 (dk_at dksX13_code_1 20 rfl rfl)
theorem dX13_code_45 : decode cX13_code 45 = .ok (.goto 17, 3) := dk_167 0 17 (dk_at dksX13_code_2 0 rfl rfl)
theorem dX13_code_48 : decode cX13_code 48 = .ok (.iload_n 2, 1) := dk_28 (dk_at dksX13_code_2 3 rfl rfl)
theorem dX13_code_49 : decode cX13_code 49 = .ok (.iconst 3, 1) := dk_6 (dk_at dksX13_code_2 4 rfl rfl)
theorem dX13_code_50 : decode cX13_code 50 = .ok (.if_icmp .ne 9, 3) := dk_160 0 9 (dk_at dksX13_code_2 5 rfl rfl)
theorem dX13_code_53 : decode cX13_code 53 = .ok (.ldc2_w 34, 3) := dk_20 0 34 (dk_at dksX13_code_2 8 rfl rfl)
theorem dX13_code_56 : decode cX13_code 56 = .ok (.goto 6, 3) := dk_167 0 6 (dk_at dksX13_code_2 11 rfl rfl)
theorem dX13_code_59 : decode cX13_code 59 = .ok (.ldc2_w 36, 3) := dk_20 0 36 (dk_at dksX13_code_2 14 rfl rfl)
theorem dX13_code_62 : decode cX13_code 62 = .ok (.lstore_n 3, 1) := dk_66 (dk_at dksX13_code_2 17 rfl rfl)
theorem dX13_code_63 : decode cX13_code 63 = .ok (.lload_n 3, 1) := dk_33 (dk_at dksX13_code_2 18 rfl rfl)
theorem dX13_code_64 : decode cX13_code 64 = .ok (.iload_n 1, 1) := dk_27 (dk_at dksX13_code_2 19 rfl rfl)
theorem dX13_code_65 : decode cX13_code 65 = .ok (.bipush 6, 2) := dk_16 6 (dk_at dksX13_code_2 20 rfl rfl)
theorem dX13_code_67 : decode cX13_code 67 = .ok (.iload_n 2, 1) := dk_28 (dk_at dksX13_code_2 22 rfl rfl)
theorem dX13_code_68 : decode cX13_code 68 = .ok (.iconst 1, 1) := dk_4 (dk_at dksX13_code_2 23 rfl rfl)
theorem dX13_code_69 : decode cX13_code 69 = .ok (.isub, 1) := dk_100 (dk_at dksX13_code_3 0 rfl rfl)
theorem dX13_code_70 : decode cX13_code 70 = .ok (.imul, 1) := dk_104 (dk_at dksX13_code_3 1 rfl rfl)
theorem dX13_code_71 : decode cX13_code 71 = .ok (.ishr, 1) := dk_122 (dk_at dksX13_code_3 2 rfl rfl)
theorem dX13_code_72 : decode cX13_code 72 = .ok (.i2l, 1) := dk_133 (dk_at dksX13_code_3 3 rfl rfl)
theorem dX13_code_73 : decode cX13_code 73 = .ok (.lor, 1) := dk_129 (dk_at dksX13_code_3 4 rfl rfl)
theorem dX13_code_74 : decode cX13_code 74 = .ok (.lstore_n 3, 1) := dk_66 (dk_at dksX13_code_3 5 rfl rfl)
theorem dX13_code_75 : decode cX13_code 75 = .ok (.iload_n 2, 1) := dk_28 (dk_at dksX13_code_3 6 rfl rfl)
theorem dX13_code_76 : decode cX13_code 76 = .ok (.iconst 2, 1) := dk_5 (dk_at dksX13_code_3 7 rfl rfl)
theorem dX13_code_77 : decode cX13_code 77 = .ok (.isub, 1) := dk_100 (dk_at dksX13_code_3 8 rfl rfl)
theorem dX13_code_78 : decode cX13_code 78 = .ok (.istore 5, 2) := dk_54 5 (dk_at dksX13_code_3 9 rfl rfl)
theorem dX13_code_80 : decode cX13_code 80 = .ok (.iload 5, 2) := dk_21 5 (dk_at dksX13_code_3 11 rfl rfl)
theorem dX13_code_82 : decode cX13_code 82 = .ok (.ifCond .lt 30, 3) := dk_155 0 30 (dk_at dksX13_code_3 13 rfl rfl)
theorem dX13_code_85 : decode cX13_code 85 = .ok (.lload_n 3, 1) := dk_33 (dk_at dksX13_code_3 16 rfl rfl)
theorem dX13_code_86 : decode cX13_code 86 = .ok (.bipush 8, 2) := dk_16 8 (dk_at dksX13_code_3 17 rfl rfl)
theorem dX13_code_88 : decode cX13_code 88 = .ok (.lshl, 1) := dk_121 (dk_at dksX13_code_3 19 rfl rfl)
theorem dX13_code_89 : decode cX13_code 89 = .ok (.ldc2_w 38, 3) := dk_20 0 38 (dk_at dksX13_code_3 20 rfl rfl)
theorem dX13_code_92 : decode cX13_code 92 = .ok (.lor, 1) := dk_129 (dk_at dksX13_code_3 23 rfl rfl)
theorem dX13_code_93 : decode cX13_code 93 = .ok (.iload_n 1, 1) := dk_27 (dk_at dksX13_code_4 0 rfl rfl)
theorem dX13_code_94 : decode cX13_code 94 = .ok (.bipush 6, 2) := dk_16 6 (dk_at dksX13_code_4 1 rfl rfl)
theorem dX13_code_96 : decode cX13_code 96 = .ok (.iload 5, 2) := dk_21 5 (dk_at dksX13_code_4 3 rfl rfl)
theorem dX13_code_98 : decode cX13_code 98 = .ok (.imul, 1) := dk_104 (dk_at dksX13_code_4 5 rfl rfl)
theorem dX13_code_99 : decode cX13_code 99 = .ok (.ishr, 1) := dk_122 (dk_at dksX13_code_4 6 rfl rfl)
theorem dX13_code_100 : decode cX13_code 100 = .ok (.bipush 63, 2) := dk_16 63 (dk_at dksX13_code_4 7 rfl rfl)
theorem dX13_code_102 : decode cX13_code 102 = .ok (.iand, 1) := dk_126 (dk_at dksX13_code_4 9 rfl rfl)
theorem dX13_code_103 : decode cX13_code 103 = .ok (.i2l, 1) := dk_133 (dk_at dksX13_code_4 10 rfl rfl)
theorem dX13_code_104 : decode cX13_code 104 = .ok (.lor, 1) := dk_129 (dk_at dksX13_code_4 11 rfl rfl)
theorem dX13_code_105 : decode cX13_code 105 = .ok (.lstore_n 3, 1) := dk_66 (dk_at dksX13_code_4 12 rfl rfl)
theorem dX13_code_106 : decode cX13_code 106 = .ok (.iinc 5 (-1), 3) := dk_132 5 255 (dk_at dksX13_code_4 13 rfl rfl)
theorem dX13_code_109 : decode cX13_code 109 = .ok (.goto (-29), 3) := dk_167 255 227 (dk_at dksX13_code_4 16 rfl rfl)
theorem dX13_code_112 : decode cX13_code 112 = .ok (.lload_n 3, 1) := dk_33 (dk_at dksX13_code_4 19 rfl rfl)
theorem dX13_code_113 : decode cX13_code 113 = .ok (.iload_n 2, 1) := dk_28 (dk_at dksX13_code_4 20 rfl rfl)
theorem dX13_code_114 : decode cX13_code 114 = .ok (.invokestatic 27, 3) := dk_184 0 27 (dk_at dksX13_code_4 21 rfl rfl)
theorem dX13_code_117 : decode cX13_code 117 = .ok (.lreturn, 1) := dk_173 (dk_at dksX13_code_5 0 rfl rfl)
abbrev cX13_whole : ByteArray := prog_2_method_6_code
def yX13_whole : MethodName := ⟨RX13, "whole", "([II)I"⟩
def dkwX13_whole_3 : List UInt8 := [167, 255, 234, 29, 172]
abbrev dktX13_whole_3 : List UInt8 := dkwX13_whole_3 ++ []
def dkwX13_whole_2 : List UInt8 := [54, 4, 21, 4, 28, 162, 0, 22, 29, 16, 6, 120, 43, 21, 4, 46, 16, 63, 126, 128, 62, 132, 4, 1]
abbrev dktX13_whole_2 : List UInt8 := dkwX13_whole_2 ++ dktX13_whole_3
def dkwX13_whole_1 : List UInt8 := [160, 0, 9, 43, 3, 46, 167, 0, 15, 43, 3, 46, 4, 16, 7, 28, 100, 120, 4, 100, 126, 62, 4]
abbrev dktX13_whole_1 : List UInt8 := dkwX13_whole_1 ++ dktX13_whole_2
def dkwX13_whole_0 : List UInt8 := [43, 3, 46, 184, 0, 19, 28, 160, 0, 11, 43, 28, 184, 0, 23, 154, 0, 5, 2, 172, 28, 4]
abbrev dktX13_whole_0 : List UInt8 := dkwX13_whole_0 ++ dktX13_whole_1
theorem dksX13_whole_0 : cX13_whole.data.toList.drop 0 = dktX13_whole_0 := by decide +kernel
theorem dksX13_whole_1 : cX13_whole.data.toList.drop 22 = dktX13_whole_1 := dk_seg dksX13_whole_0 22 rfl rfl
theorem dksX13_whole_2 : cX13_whole.data.toList.drop 45 = dktX13_whole_2 := dk_seg dksX13_whole_1 23 rfl rfl
theorem dksX13_whole_3 : cX13_whole.data.toList.drop 69 = dktX13_whole_3 := dk_seg dksX13_whole_2 24 rfl rfl
theorem dX13_whole_0 : decode cX13_whole 0 = .ok (.aload_n 1, 1) := dk_43 (dk_at dksX13_whole_0 0 rfl rfl)
theorem dX13_whole_1 : decode cX13_whole 1 = .ok (.iconst 0, 1) := dk_3 (dk_at dksX13_whole_0 1 rfl rfl)
theorem dX13_whole_2 : decode cX13_whole 2 = .ok (.iaload, 1) := dk_46 (dk_at dksX13_whole_0 2 rfl rfl)
theorem dX13_whole_3 : decode cX13_whole 3 = .ok (.invokestatic 19, 3) := dk_184 0 19 (dk_at dksX13_whole_0 3 rfl rfl)
theorem dX13_whole_6 : decode cX13_whole 6 = .ok (.iload_n 2, 1) := dk_28 (dk_at dksX13_whole_0 6 rfl rfl)
theorem dX13_whole_7 : decode cX13_whole 7 = .ok (.if_icmp .ne 11, 3) := dk_160 0 11 (dk_at dksX13_whole_0 7 rfl rfl)
theorem dX13_whole_10 : decode cX13_whole 10 = .ok (.aload_n 1, 1) := dk_43 (dk_at dksX13_whole_0 10 rfl rfl)
theorem dX13_whole_11 : decode cX13_whole 11 = .ok (.iload_n 2, 1) := dk_28 (dk_at dksX13_whole_0 11 rfl rfl)
theorem dX13_whole_12 : decode cX13_whole 12 = .ok (.invokestatic 23, 3) := dk_184 0 23 (dk_at dksX13_whole_0 12 rfl rfl)
theorem dX13_whole_15 : decode cX13_whole 15 = .ok (.ifCond .ne 5, 3) := dk_154 0 5 (dk_at dksX13_whole_0 15 rfl rfl)
theorem dX13_whole_18 : decode cX13_whole 18 = .ok (.iconst (-1), 1) := dk_2 (dk_at dksX13_whole_0 18 rfl rfl)
theorem dX13_whole_19 : decode cX13_whole 19 = .ok (.ireturn, 1) := dk_172 (dk_at dksX13_whole_0 19 rfl rfl)
theorem dX13_whole_20 : decode cX13_whole 20 = .ok (.iload_n 2, 1) := dk_28 (dk_at dksX13_whole_0 20 rfl rfl)
theorem dX13_whole_21 : decode cX13_whole 21 = .ok (.iconst 1, 1) := dk_4 (dk_at dksX13_whole_0 21 rfl rfl)
theorem dX13_whole_22 : decode cX13_whole 22 = .ok (.if_icmp .ne 9, 3) := dk_160 0 9 (dk_at dksX13_whole_1 0 rfl rfl)
theorem dX13_whole_25 : decode cX13_whole 25 = .ok (.aload_n 1, 1) := dk_43 (dk_at dksX13_whole_1 3 rfl rfl)
theorem dX13_whole_26 : decode cX13_whole 26 = .ok (.iconst 0, 1) := dk_3 (dk_at dksX13_whole_1 4 rfl rfl)
theorem dX13_whole_27 : decode cX13_whole 27 = .ok (.iaload, 1) := dk_46 (dk_at dksX13_whole_1 5 rfl rfl)
theorem dX13_whole_28 : decode cX13_whole 28 = .ok (.goto 15, 3) := dk_167 0 15 (dk_at dksX13_whole_1 6 rfl rfl)
theorem dX13_whole_31 : decode cX13_whole 31 = .ok (.aload_n 1, 1) := dk_43 (dk_at dksX13_whole_1 9 rfl rfl)
theorem dX13_whole_32 : decode cX13_whole 32 = .ok (.iconst 0, 1) := dk_3 (dk_at dksX13_whole_1 10 rfl rfl)
theorem dX13_whole_33 : decode cX13_whole 33 = .ok (.iaload, 1) := dk_46 (dk_at dksX13_whole_1 11 rfl rfl)
theorem dX13_whole_34 : decode cX13_whole 34 = .ok (.iconst 1, 1) := dk_4 (dk_at dksX13_whole_1 12 rfl rfl)
theorem dX13_whole_35 : decode cX13_whole 35 = .ok (.bipush 7, 2) := dk_16 7 (dk_at dksX13_whole_1 13 rfl rfl)
theorem dX13_whole_37 : decode cX13_whole 37 = .ok (.iload_n 2, 1) := dk_28 (dk_at dksX13_whole_1 15 rfl rfl)
theorem dX13_whole_38 : decode cX13_whole 38 = .ok (.isub, 1) := dk_100 (dk_at dksX13_whole_1 16 rfl rfl)
theorem dX13_whole_39 : decode cX13_whole 39 = .ok (.ishl, 1) := dk_120 (dk_at dksX13_whole_1 17 rfl rfl)
theorem dX13_whole_40 : decode cX13_whole 40 = .ok (.iconst 1, 1) := dk_4 (dk_at dksX13_whole_1 18 rfl rfl)
theorem dX13_whole_41 : decode cX13_whole 41 = .ok (.isub, 1) := dk_100 (dk_at dksX13_whole_1 19 rfl rfl)
theorem dX13_whole_42 : decode cX13_whole 42 = .ok (.iand, 1) := dk_126 (dk_at dksX13_whole_1 20 rfl rfl)
theorem dX13_whole_43 : decode cX13_whole 43 = .ok (.istore_n 3, 1) := dk_62 (dk_at dksX13_whole_1 21 rfl rfl)
theorem dX13_whole_44 : decode cX13_whole 44 = .ok (.iconst 1, 1) := dk_4 (dk_at dksX13_whole_1 22 rfl rfl)
theorem dX13_whole_45 : decode cX13_whole 45 = .ok (.istore 4, 2) := dk_54 4 (dk_at dksX13_whole_2 0 rfl rfl)
theorem dX13_whole_47 : decode cX13_whole 47 = .ok (.iload 4, 2) := dk_21 4 (dk_at dksX13_whole_2 2 rfl rfl)
theorem dX13_whole_49 : decode cX13_whole 49 = .ok (.iload_n 2, 1) := dk_28 (dk_at dksX13_whole_2 4 rfl rfl)
theorem dX13_whole_50 : decode cX13_whole 50 = .ok (.if_icmp .ge 22, 3) := dk_162 0 22 (dk_at dksX13_whole_2 5 rfl rfl)
theorem dX13_whole_53 : decode cX13_whole 53 = .ok (.iload_n 3, 1) := dk_29 (dk_at dksX13_whole_2 8 rfl rfl)
theorem dX13_whole_54 : decode cX13_whole 54 = .ok (.bipush 6, 2) := dk_16 6 (dk_at dksX13_whole_2 9 rfl rfl)
theorem dX13_whole_56 : decode cX13_whole 56 = .ok (.ishl, 1) := dk_120 (dk_at dksX13_whole_2 11 rfl rfl)
theorem dX13_whole_57 : decode cX13_whole 57 = .ok (.aload_n 1, 1) := dk_43 (dk_at dksX13_whole_2 12 rfl rfl)
theorem dX13_whole_58 : decode cX13_whole 58 = .ok (.iload 4, 2) := dk_21 4 (dk_at dksX13_whole_2 13 rfl rfl)
theorem dX13_whole_60 : decode cX13_whole 60 = .ok (.iaload, 1) := dk_46 (dk_at dksX13_whole_2 15 rfl rfl)
theorem dX13_whole_61 : decode cX13_whole 61 = .ok (.bipush 63, 2) := dk_16 63 (dk_at dksX13_whole_2 16 rfl rfl)
theorem dX13_whole_63 : decode cX13_whole 63 = .ok (.iand, 1) := dk_126 (dk_at dksX13_whole_2 18 rfl rfl)
theorem dX13_whole_64 : decode cX13_whole 64 = .ok (.ior, 1) := dk_128 (dk_at dksX13_whole_2 19 rfl rfl)
theorem dX13_whole_65 : decode cX13_whole 65 = .ok (.istore_n 3, 1) := dk_62 (dk_at dksX13_whole_2 20 rfl rfl)
theorem dX13_whole_66 : decode cX13_whole 66 = .ok (.iinc 4 1, 3) := dk_132 4 1 (dk_at dksX13_whole_2 21 rfl rfl)
theorem dX13_whole_69 : decode cX13_whole 69 = .ok (.goto (-22), 3) := dk_167 255 234 (dk_at dksX13_whole_3 0 rfl rfl)
theorem dX13_whole_72 : decode cX13_whole 72 = .ok (.iload_n 3, 1) := dk_29 (dk_at dksX13_whole_3 3 rfl rfl)
theorem dX13_whole_73 : decode cX13_whole 73 = .ok (.ireturn, 1) := dk_172 (dk_at dksX13_whole_3 4 rfl rfl)
abbrev cX13_length : ByteArray := prog_2_method_3_code
def yX13_length : MethodName := ⟨RX13, "length", "(I)I"⟩
def dkwX13_length_2 : List UInt8 := [17, 0, 245, 162, 0, 7, 7, 167, 0, 4, 3, 172]
abbrev dktX13_length_2 : List UInt8 := dkwX13_length_2 ++ []
def dkwX13_length_1 : List UInt8 := [17, 0, 224, 162, 0, 7, 5, 167, 0, 26, 26, 17, 0, 240, 162, 0, 7, 6, 167, 0, 15, 26]
abbrev dktX13_length_1 : List UInt8 := dkwX13_length_1 ++ dktX13_length_2
def dkwX13_length_0 : List UInt8 := [26, 17, 0, 128, 162, 0, 7, 4, 167, 0, 48, 26, 17, 0, 194, 162, 0, 7, 3, 167, 0, 37, 26]
abbrev dktX13_length_0 : List UInt8 := dkwX13_length_0 ++ dktX13_length_1
theorem dksX13_length_0 : cX13_length.data.toList.drop 0 = dktX13_length_0 := by decide +kernel
theorem dksX13_length_1 : cX13_length.data.toList.drop 23 = dktX13_length_1 := dk_seg dksX13_length_0 23 rfl rfl
theorem dksX13_length_2 : cX13_length.data.toList.drop 45 = dktX13_length_2 := dk_seg dksX13_length_1 22 rfl rfl
theorem dX13_length_0 : decode cX13_length 0 = .ok (.iload_n 0, 1) := dk_26 (dk_at dksX13_length_0 0 rfl rfl)
theorem dX13_length_1 : decode cX13_length 1 = .ok (.sipush 128, 3) := dk_17 0 128 (dk_at dksX13_length_0 1 rfl rfl)
theorem dX13_length_4 : decode cX13_length 4 = .ok (.if_icmp .ge 7, 3) := dk_162 0 7 (dk_at dksX13_length_0 4 rfl rfl)
theorem dX13_length_7 : decode cX13_length 7 = .ok (.iconst 1, 1) := dk_4 (dk_at dksX13_length_0 7 rfl rfl)
theorem dX13_length_8 : decode cX13_length 8 = .ok (.goto 48, 3) := dk_167 0 48 (dk_at dksX13_length_0 8 rfl rfl)
theorem dX13_length_11 : decode cX13_length 11 = .ok (.iload_n 0, 1) := dk_26 (dk_at dksX13_length_0 11 rfl rfl)
theorem dX13_length_12 : decode cX13_length 12 = .ok (.sipush 194, 3) := dk_17 0 194 (dk_at dksX13_length_0 12 rfl rfl)
theorem dX13_length_15 : decode cX13_length 15 = .ok (.if_icmp .ge 7, 3) := dk_162 0 7 (dk_at dksX13_length_0 15 rfl rfl)
theorem dX13_length_18 : decode cX13_length 18 = .ok (.iconst 0, 1) := dk_3 (dk_at dksX13_length_0 18 rfl rfl)
theorem dX13_length_19 : decode cX13_length 19 = .ok (.goto 37, 3) := dk_167 0 37 (dk_at dksX13_length_0 19 rfl rfl)
theorem dX13_length_22 : decode cX13_length 22 = .ok (.iload_n 0, 1) := dk_26 (dk_at dksX13_length_0 22 rfl rfl)
theorem dX13_length_23 : decode cX13_length 23 = .ok (.sipush 224, 3) := dk_17 0 224 (dk_at dksX13_length_1 0 rfl rfl)
theorem dX13_length_26 : decode cX13_length 26 = .ok (.if_icmp .ge 7, 3) := dk_162 0 7 (dk_at dksX13_length_1 3 rfl rfl)
theorem dX13_length_29 : decode cX13_length 29 = .ok (.iconst 2, 1) := dk_5 (dk_at dksX13_length_1 6 rfl rfl)
theorem dX13_length_30 : decode cX13_length 30 = .ok (.goto 26, 3) := dk_167 0 26 (dk_at dksX13_length_1 7 rfl rfl)
theorem dX13_length_33 : decode cX13_length 33 = .ok (.iload_n 0, 1) := dk_26 (dk_at dksX13_length_1 10 rfl rfl)
theorem dX13_length_34 : decode cX13_length 34 = .ok (.sipush 240, 3) := dk_17 0 240 (dk_at dksX13_length_1 11 rfl rfl)
theorem dX13_length_37 : decode cX13_length 37 = .ok (.if_icmp .ge 7, 3) := dk_162 0 7 (dk_at dksX13_length_1 14 rfl rfl)
theorem dX13_length_40 : decode cX13_length 40 = .ok (.iconst 3, 1) := dk_6 (dk_at dksX13_length_1 17 rfl rfl)
theorem dX13_length_41 : decode cX13_length 41 = .ok (.goto 15, 3) := dk_167 0 15 (dk_at dksX13_length_1 18 rfl rfl)
theorem dX13_length_44 : decode cX13_length 44 = .ok (.iload_n 0, 1) := dk_26 (dk_at dksX13_length_1 21 rfl rfl)
theorem dX13_length_45 : decode cX13_length 45 = .ok (.sipush 245, 3) := dk_17 0 245 (dk_at dksX13_length_2 0 rfl rfl)
theorem dX13_length_48 : decode cX13_length 48 = .ok (.if_icmp .ge 7, 3) := dk_162 0 7 (dk_at dksX13_length_2 3 rfl rfl)
theorem dX13_length_51 : decode cX13_length 51 = .ok (.iconst 4, 1) := dk_7 (dk_at dksX13_length_2 6 rfl rfl)
theorem dX13_length_52 : decode cX13_length 52 = .ok (.goto 4, 3) := dk_167 0 4 (dk_at dksX13_length_2 7 rfl rfl)
theorem dX13_length_55 : decode cX13_length 55 = .ok (.iconst 0, 1) := dk_3 (dk_at dksX13_length_2 10 rfl rfl)
theorem dX13_length_56 : decode cX13_length 56 = .ok (.ireturn, 1) := dk_172 (dk_at dksX13_length_2 11 rfl rfl)
abbrev cX13_isFine : ByteArray := prog_2_method_5_code
def yX13_isFine : MethodName := ⟨RX13, "isFine", "([II)Z"⟩
def dkwX13_isFine_2 : List UInt8 := [132, 3, 1, 167, 255, 231, 28, 172]
abbrev dktX13_isFine_2 : List UInt8 := dkwX13_isFine_2 ++ []
def dkwX13_isFine_1 : List UInt8 := [62, 29, 27, 162, 0, 26, 28, 153, 0, 22, 42, 29, 46, 17, 0, 128, 17, 0, 191, 184, 0, 7, 61]
abbrev dktX13_isFine_1 : List UInt8 := dkwX13_isFine_1 ++ dktX13_isFine_2
def dkwX13_isFine_0 : List UInt8 := [27, 5, 161, 0, 15, 42, 3, 46, 42, 4, 46, 184, 0, 13, 153, 0, 7, 4, 167, 0, 4, 3, 61, 5]
abbrev dktX13_isFine_0 : List UInt8 := dkwX13_isFine_0 ++ dktX13_isFine_1
theorem dksX13_isFine_0 : cX13_isFine.data.toList.drop 0 = dktX13_isFine_0 := by decide +kernel
theorem dksX13_isFine_1 : cX13_isFine.data.toList.drop 24 = dktX13_isFine_1 := dk_seg dksX13_isFine_0 24 rfl rfl
theorem dksX13_isFine_2 : cX13_isFine.data.toList.drop 47 = dktX13_isFine_2 := dk_seg dksX13_isFine_1 23 rfl rfl
theorem dX13_isFine_0 : decode cX13_isFine 0 = .ok (.iload_n 1, 1) := dk_27 (dk_at dksX13_isFine_0 0 rfl rfl)
theorem dX13_isFine_1 : decode cX13_isFine 1 = .ok (.iconst 2, 1) := dk_5 (dk_at dksX13_isFine_0 1 rfl rfl)
theorem dX13_isFine_2 : decode cX13_isFine 2 = .ok (.if_icmp .lt 15, 3) := dk_161 0 15 (dk_at dksX13_isFine_0 2 rfl rfl)
theorem dX13_isFine_5 : decode cX13_isFine 5 = .ok (.aload_n 0, 1) := dk_42 (dk_at dksX13_isFine_0 5 rfl rfl)
theorem dX13_isFine_6 : decode cX13_isFine 6 = .ok (.iconst 0, 1) := dk_3 (dk_at dksX13_isFine_0 6 rfl rfl)
theorem dX13_isFine_7 : decode cX13_isFine 7 = .ok (.iaload, 1) := dk_46 (dk_at dksX13_isFine_0 7 rfl rfl)
theorem dX13_isFine_8 : decode cX13_isFine 8 = .ok (.aload_n 0, 1) := dk_42 (dk_at dksX13_isFine_0 8 rfl rfl)
theorem dX13_isFine_9 : decode cX13_isFine 9 = .ok (.iconst 1, 1) := dk_4 (dk_at dksX13_isFine_0 9 rfl rfl)
theorem dX13_isFine_10 : decode cX13_isFine 10 = .ok (.iaload, 1) := dk_46 (dk_at dksX13_isFine_0 10 rfl rfl)
theorem dX13_isFine_11 : decode cX13_isFine 11 = .ok (.invokestatic 13, 3) := dk_184 0 13 (dk_at dksX13_isFine_0 11 rfl rfl)
theorem dX13_isFine_14 : decode cX13_isFine 14 = .ok (.ifCond .eq 7, 3) := dk_153 0 7 (dk_at dksX13_isFine_0 14 rfl rfl)
theorem dX13_isFine_17 : decode cX13_isFine 17 = .ok (.iconst 1, 1) := dk_4 (dk_at dksX13_isFine_0 17 rfl rfl)
theorem dX13_isFine_18 : decode cX13_isFine 18 = .ok (.goto 4, 3) := dk_167 0 4 (dk_at dksX13_isFine_0 18 rfl rfl)
theorem dX13_isFine_21 : decode cX13_isFine 21 = .ok (.iconst 0, 1) := dk_3 (dk_at dksX13_isFine_0 21 rfl rfl)
theorem dX13_isFine_22 : decode cX13_isFine 22 = .ok (.istore_n 2, 1) := dk_61 (dk_at dksX13_isFine_0 22 rfl rfl)
theorem dX13_isFine_23 : decode cX13_isFine 23 = .ok (.iconst 2, 1) := dk_5 (dk_at dksX13_isFine_0 23 rfl rfl)
theorem dX13_isFine_24 : decode cX13_isFine 24 = .ok (.istore_n 3, 1) := dk_62 (dk_at dksX13_isFine_1 0 rfl rfl)
theorem dX13_isFine_25 : decode cX13_isFine 25 = .ok (.iload_n 3, 1) := dk_29 (dk_at dksX13_isFine_1 1 rfl rfl)
theorem dX13_isFine_26 : decode cX13_isFine 26 = .ok (.iload_n 1, 1) := dk_27 (dk_at dksX13_isFine_1 2 rfl rfl)
theorem dX13_isFine_27 : decode cX13_isFine 27 = .ok (.if_icmp .ge 26, 3) := dk_162 0 26 (dk_at dksX13_isFine_1 3 rfl rfl)
theorem dX13_isFine_30 : decode cX13_isFine 30 = .ok (.iload_n 2, 1) := dk_28 (dk_at dksX13_isFine_1 6 rfl rfl)
theorem dX13_isFine_31 : decode cX13_isFine 31 = .ok (.ifCond .eq 22, 3) := dk_153 0 22 (dk_at dksX13_isFine_1 7 rfl rfl)
theorem dX13_isFine_34 : decode cX13_isFine 34 = .ok (.aload_n 0, 1) := dk_42 (dk_at dksX13_isFine_1 10 rfl rfl)
theorem dX13_isFine_35 : decode cX13_isFine 35 = .ok (.iload_n 3, 1) := dk_29 (dk_at dksX13_isFine_1 11 rfl rfl)
theorem dX13_isFine_36 : decode cX13_isFine 36 = .ok (.iaload, 1) := dk_46 (dk_at dksX13_isFine_1 12 rfl rfl)
theorem dX13_isFine_37 : decode cX13_isFine 37 = .ok (.sipush 128, 3) := dk_17 0 128 (dk_at dksX13_isFine_1 13 rfl rfl)
theorem dX13_isFine_40 : decode cX13_isFine 40 = .ok (.sipush 191, 3) := dk_17 0 191 (dk_at dksX13_isFine_1 16 rfl rfl)
theorem dX13_isFine_43 : decode cX13_isFine 43 = .ok (.invokestatic 7, 3) := dk_184 0 7 (dk_at dksX13_isFine_1 19 rfl rfl)
theorem dX13_isFine_46 : decode cX13_isFine 46 = .ok (.istore_n 2, 1) := dk_61 (dk_at dksX13_isFine_1 22 rfl rfl)
theorem dX13_isFine_47 : decode cX13_isFine 47 = .ok (.iinc 3 1, 3) := dk_132 3 1 (dk_at dksX13_isFine_2 0 rfl rfl)
theorem dX13_isFine_50 : decode cX13_isFine 50 = .ok (.goto (-25), 3) := dk_167 255 231 (dk_at dksX13_isFine_2 3 rfl rfl)
theorem dX13_isFine_53 : decode cX13_isFine 53 = .ok (.iload_n 2, 1) := dk_28 (dk_at dksX13_isFine_2 6 rfl rfl)
theorem dX13_isFine_54 : decode cX13_isFine 54 = .ok (.ireturn, 1) := dk_172 (dk_at dksX13_isFine_2 7 rfl rfl)
abbrev cX13_isSecond : ByteArray := prog_2_method_4_code
def yX13_isSecond : MethodName := ⟨RX13, "isSecond", "(II)Z"⟩
def dkwX13_isSecond_2 : List UInt8 := [160, 0, 9, 17, 0, 143, 167, 0, 6, 17, 0, 191, 62, 27, 28, 29, 184, 0, 7, 172]
abbrev dktX13_isSecond_2 : List UInt8 := dkwX13_isSecond_2 ++ []
def dkwX13_isSecond_1 : List UInt8 := [167, 0, 6, 17, 0, 128, 61, 26, 17, 0, 237, 160, 0, 9, 17, 0, 159, 167, 0, 19, 26, 17, 0, 244]
abbrev dktX13_isSecond_1 : List UInt8 := dkwX13_isSecond_1 ++ dktX13_isSecond_2
def dkwX13_isSecond_0 : List UInt8 := [26, 17, 0, 224, 160, 0, 9, 17, 0, 160, 167, 0, 19, 26, 17, 0, 240, 160, 0, 9, 17, 0, 144]
abbrev dktX13_isSecond_0 : List UInt8 := dkwX13_isSecond_0 ++ dktX13_isSecond_1
theorem dksX13_isSecond_0 : cX13_isSecond.data.toList.drop 0 = dktX13_isSecond_0 := by decide +kernel
theorem dksX13_isSecond_1 : cX13_isSecond.data.toList.drop 23 = dktX13_isSecond_1 := dk_seg dksX13_isSecond_0 23 rfl rfl
theorem dksX13_isSecond_2 : cX13_isSecond.data.toList.drop 47 = dktX13_isSecond_2 := dk_seg dksX13_isSecond_1 24 rfl rfl
theorem dX13_isSecond_0 : decode cX13_isSecond 0 = .ok (.iload_n 0, 1) := dk_26 (dk_at dksX13_isSecond_0 0 rfl rfl)
theorem dX13_isSecond_1 : decode cX13_isSecond 1 = .ok (.sipush 224, 3) := dk_17 0 224 (dk_at dksX13_isSecond_0 1 rfl rfl)
theorem dX13_isSecond_4 : decode cX13_isSecond 4 = .ok (.if_icmp .ne 9, 3) := dk_160 0 9 (dk_at dksX13_isSecond_0 4 rfl rfl)
theorem dX13_isSecond_7 : decode cX13_isSecond 7 = .ok (.sipush 160, 3) := dk_17 0 160 (dk_at dksX13_isSecond_0 7 rfl rfl)
theorem dX13_isSecond_10 : decode cX13_isSecond 10 = .ok (.goto 19, 3) := dk_167 0 19 (dk_at dksX13_isSecond_0 10 rfl rfl)
theorem dX13_isSecond_13 : decode cX13_isSecond 13 = .ok (.iload_n 0, 1) := dk_26 (dk_at dksX13_isSecond_0 13 rfl rfl)
theorem dX13_isSecond_14 : decode cX13_isSecond 14 = .ok (.sipush 240, 3) := dk_17 0 240 (dk_at dksX13_isSecond_0 14 rfl rfl)
theorem dX13_isSecond_17 : decode cX13_isSecond 17 = .ok (.if_icmp .ne 9, 3) := dk_160 0 9 (dk_at dksX13_isSecond_0 17 rfl rfl)
theorem dX13_isSecond_20 : decode cX13_isSecond 20 = .ok (.sipush 144, 3) := dk_17 0 144 (dk_at dksX13_isSecond_0 20 rfl rfl)
theorem dX13_isSecond_23 : decode cX13_isSecond 23 = .ok (.goto 6, 3) := dk_167 0 6 (dk_at dksX13_isSecond_1 0 rfl rfl)
theorem dX13_isSecond_26 : decode cX13_isSecond 26 = .ok (.sipush 128, 3) := dk_17 0 128 (dk_at dksX13_isSecond_1 3 rfl rfl)
theorem dX13_isSecond_29 : decode cX13_isSecond 29 = .ok (.istore_n 2, 1) := dk_61 (dk_at dksX13_isSecond_1 6 rfl rfl)
theorem dX13_isSecond_30 : decode cX13_isSecond 30 = .ok (.iload_n 0, 1) := dk_26 (dk_at dksX13_isSecond_1 7 rfl rfl)
theorem dX13_isSecond_31 : decode cX13_isSecond 31 = .ok (.sipush 237, 3) := dk_17 0 237 (dk_at dksX13_isSecond_1 8 rfl rfl)
theorem dX13_isSecond_34 : decode cX13_isSecond 34 = .ok (.if_icmp .ne 9, 3) := dk_160 0 9 (dk_at dksX13_isSecond_1 11 rfl rfl)
theorem dX13_isSecond_37 : decode cX13_isSecond 37 = .ok (.sipush 159, 3) := dk_17 0 159 (dk_at dksX13_isSecond_1 14 rfl rfl)
theorem dX13_isSecond_40 : decode cX13_isSecond 40 = .ok (.goto 19, 3) := dk_167 0 19 (dk_at dksX13_isSecond_1 17 rfl rfl)
theorem dX13_isSecond_43 : decode cX13_isSecond 43 = .ok (.iload_n 0, 1) := dk_26 (dk_at dksX13_isSecond_1 20 rfl rfl)
theorem dX13_isSecond_44 : decode cX13_isSecond 44 = .ok (.sipush 244, 3) := dk_17 0 244 (dk_at dksX13_isSecond_1 21 rfl rfl)
theorem dX13_isSecond_47 : decode cX13_isSecond 47 = .ok (.if_icmp .ne 9, 3) := dk_160 0 9 (dk_at dksX13_isSecond_2 0 rfl rfl)
theorem dX13_isSecond_50 : decode cX13_isSecond 50 = .ok (.sipush 143, 3) := dk_17 0 143 (dk_at dksX13_isSecond_2 3 rfl rfl)
theorem dX13_isSecond_53 : decode cX13_isSecond 53 = .ok (.goto 6, 3) := dk_167 0 6 (dk_at dksX13_isSecond_2 6 rfl rfl)
theorem dX13_isSecond_56 : decode cX13_isSecond 56 = .ok (.sipush 191, 3) := dk_17 0 191 (dk_at dksX13_isSecond_2 9 rfl rfl)
theorem dX13_isSecond_59 : decode cX13_isSecond 59 = .ok (.istore_n 3, 1) := dk_62 (dk_at dksX13_isSecond_2 12 rfl rfl)
theorem dX13_isSecond_60 : decode cX13_isSecond 60 = .ok (.iload_n 1, 1) := dk_27 (dk_at dksX13_isSecond_2 13 rfl rfl)
theorem dX13_isSecond_61 : decode cX13_isSecond 61 = .ok (.iload_n 2, 1) := dk_28 (dk_at dksX13_isSecond_2 14 rfl rfl)
theorem dX13_isSecond_62 : decode cX13_isSecond 62 = .ok (.iload_n 3, 1) := dk_29 (dk_at dksX13_isSecond_2 15 rfl rfl)
theorem dX13_isSecond_63 : decode cX13_isSecond 63 = .ok (.invokestatic 7, 3) := dk_184 0 7 (dk_at dksX13_isSecond_2 16 rfl rfl)
theorem dX13_isSecond_66 : decode cX13_isSecond 66 = .ok (.ireturn, 1) := dk_172 (dk_at dksX13_isSecond_2 19 rfl rfl)
abbrev cX13_begins : ByteArray := prog_2_method_7_code
def yX13_begins : MethodName := ⟨RX13, "begins", "([II)Z"⟩
def dkwX13_begins_0 : List UInt8 := [43, 3, 46, 184, 0, 19, 28, 164, 0, 15, 43, 28, 184, 0, 23, 153, 0, 7, 4, 167, 0, 4, 3, 172]
abbrev dktX13_begins_0 : List UInt8 := dkwX13_begins_0 ++ []
theorem dksX13_begins_0 : cX13_begins.data.toList.drop 0 = dktX13_begins_0 := by decide +kernel
theorem dX13_begins_0 : decode cX13_begins 0 = .ok (.aload_n 1, 1) := dk_43 (dk_at dksX13_begins_0 0 rfl rfl)
theorem dX13_begins_1 : decode cX13_begins 1 = .ok (.iconst 0, 1) := dk_3 (dk_at dksX13_begins_0 1 rfl rfl)
theorem dX13_begins_2 : decode cX13_begins 2 = .ok (.iaload, 1) := dk_46 (dk_at dksX13_begins_0 2 rfl rfl)
theorem dX13_begins_3 : decode cX13_begins 3 = .ok (.invokestatic 19, 3) := dk_184 0 19 (dk_at dksX13_begins_0 3 rfl rfl)
theorem dX13_begins_6 : decode cX13_begins 6 = .ok (.iload_n 2, 1) := dk_28 (dk_at dksX13_begins_0 6 rfl rfl)
theorem dX13_begins_7 : decode cX13_begins 7 = .ok (.if_icmp .le 15, 3) := dk_164 0 15 (dk_at dksX13_begins_0 7 rfl rfl)
theorem dX13_begins_10 : decode cX13_begins 10 = .ok (.aload_n 1, 1) := dk_43 (dk_at dksX13_begins_0 10 rfl rfl)
theorem dX13_begins_11 : decode cX13_begins 11 = .ok (.iload_n 2, 1) := dk_28 (dk_at dksX13_begins_0 11 rfl rfl)
theorem dX13_begins_12 : decode cX13_begins 12 = .ok (.invokestatic 23, 3) := dk_184 0 23 (dk_at dksX13_begins_0 12 rfl rfl)
theorem dX13_begins_15 : decode cX13_begins 15 = .ok (.ifCond .eq 7, 3) := dk_153 0 7 (dk_at dksX13_begins_0 15 rfl rfl)
theorem dX13_begins_18 : decode cX13_begins 18 = .ok (.iconst 1, 1) := dk_4 (dk_at dksX13_begins_0 18 rfl rfl)
theorem dX13_begins_19 : decode cX13_begins 19 = .ok (.goto 4, 3) := dk_167 0 4 (dk_at dksX13_begins_0 19 rfl rfl)
theorem dX13_begins_22 : decode cX13_begins 22 = .ok (.iconst 0, 1) := dk_3 (dk_at dksX13_begins_0 22 rfl rfl)
theorem dX13_begins_23 : decode cX13_begins 23 = .ok (.ireturn, 1) := dk_172 (dk_at dksX13_begins_0 23 rfl rfl)
theorem q113 : (Jvm.Cond.initialized "CodeExchange$Few") ∈ lw_all := lw_g (lw_at lw_m1 17 rfl) rfl
theorem q621 : (Jvm.Cond.instantiable "CodeExchange$Few" (3 : Nat)) ∈ lw_all := lw_g (lw_at lw_m3 45 rfl) rfl
theorem q623 : (Jvm.Cond.instanceMethod ({ cls := "CodeExchange$Few", name := "<init>", desc := "()V" } : Jvm.MethodName)) ∈ lw_all := lw_g (lw_at lw_m3 47 rfl) rfl
theorem q624 : (Jvm.Cond.code ({ cls := "CodeExchange$Few", name := "<init>", desc := "()V" } : Jvm.MethodName) prog_2_method_1_code (1 : Nat) (Option.none : Option Jvm.ClassFile.FieldType)) ∈ lw_all := lw_g (lw_at lw_m3 48 rfl) rfl
theorem q625 : (Jvm.Cond.methodLinkNest "CodeExchange$Few" (1 : Nat) ({ cls := "CodeExchange$Form", name := "<init>", desc := "()V" } : Jvm.MethodName) "CodeExchange") ∈ lw_tbl := lw_at lw_m3 49 rfl
theorem q626 : (Jvm.Cond.lays "CodeExchange$Few" "CodeExchange$Page" "hitPoint" "I") ∈ lw_all := lw_g (lw_at lw_m3 50 rfl) rfl
theorem q627 : (Jvm.Cond.lays "CodeExchange$Few" "CodeExchange$Page" "hitGoal" "I") ∈ lw_all := lw_g (lw_at lw_m3 51 rfl) rfl
theorem q628 : (Jvm.Cond.lays "CodeExchange$Few" "CodeExchange$Page" "hitSticky" "Z") ∈ lw_all := lw_g (lw_at lw_m3 52 rfl) rfl
theorem q629 : (Jvm.Cond.superclass "CodeExchange$Few" "CodeExchange$Form") ∈ lw_all := lw_g (lw_at lw_m3 53 rfl) rfl
theorem q860 : (Jvm.Cond.selects "CodeExchange$Few" ({ cls := "CodeExchange$Page", name := "kind", desc := "()I" } : Jvm.MethodName) ({ cls := "CodeExchange$Few", name := "kind", desc := "()I" } : Jvm.MethodName)) ∈ lw_all := lw_g (lw_at lw_m4 44 rfl) rfl
theorem q861 : (Jvm.Cond.instanceMethod ({ cls := "CodeExchange$Few", name := "kind", desc := "()I" } : Jvm.MethodName)) ∈ lw_all := lw_g (lw_at lw_m4 45 rfl) rfl
theorem q862 : (Jvm.Cond.code ({ cls := "CodeExchange$Few", name := "kind", desc := "()I" } : Jvm.MethodName) prog_2_method_2_code (1 : Nat) (Option.some Jvm.ClassFile.FieldType.int)) ∈ lw_all := lw_g (lw_at lw_m4 46 rfl) rfl
theorem q875 : (Jvm.Cond.selects "CodeExchange$Few" ({ cls := "CodeExchange$Page", name := "isClosed", desc := "()Z" } : Jvm.MethodName) ({ cls := "CodeExchange$Form", name := "isClosed", desc := "()Z" } : Jvm.MethodName)) ∈ lw_all := lw_g (lw_at lw_m4 59 rfl) rfl
theorem q894 : (Jvm.Cond.selects "CodeExchange$Few" ({ cls := "CodeExchange$Page", name := "code", desc := "(I)J" } : Jvm.MethodName) ({ cls := "CodeExchange$Few", name := "code", desc := "(I)J" } : Jvm.MethodName)) ∈ lw_all := lw_g (lw_at lw_m4 78 rfl) rfl
theorem q895 : (Jvm.Cond.instanceMethod ({ cls := "CodeExchange$Few", name := "code", desc := "(I)J" } : Jvm.MethodName)) ∈ lw_all := lw_g (lw_at lw_m4 79 rfl) rfl
theorem q896 : (Jvm.Cond.code ({ cls := "CodeExchange$Few", name := "code", desc := "(I)J" } : Jvm.MethodName) prog_2_method_8_code (6 : Nat) (Option.some Jvm.ClassFile.FieldType.long)) ∈ lw_all := lw_g (lw_at lw_m4 80 rfl) rfl
theorem q897 : (Jvm.Cond.methodLink "CodeExchange$Few" (27 : Nat) ({ cls := "CodeExchange$Few", name := "told", desc := "(JI)J" } : Jvm.MethodName)) ∈ lw_all := lw_g (lw_at lw_m4 81 rfl) rfl
theorem q898 : (Jvm.Cond.sameMethod "CodeExchange$Few" "CodeExchange$Form" "told" "(JI)J") ∈ lw_all := lw_g (lw_at lw_m4 82 rfl) rfl
theorem q901 : (Jvm.Cond.constant "CodeExchange$Few" (31 : Nat) (65536 : Int32)) ∈ lw_all := lw_g (lw_at lw_m4 85 rfl) rfl
theorem q902 : (Jvm.Cond.constantLong "CodeExchange$Few" (32 : Nat) (192 : Int64)) ∈ lw_all := lw_g (lw_at lw_m4 86 rfl) rfl
theorem q903 : (Jvm.Cond.constantLong "CodeExchange$Few" (34 : Nat) (224 : Int64)) ∈ lw_all := lw_g (lw_at lw_m4 87 rfl) rfl
theorem q904 : (Jvm.Cond.constantLong "CodeExchange$Few" (36 : Nat) (240 : Int64)) ∈ lw_all := lw_g (lw_at lw_m4 88 rfl) rfl
theorem q905 : (Jvm.Cond.constantLong "CodeExchange$Few" (38 : Nat) (128 : Int64)) ∈ lw_all := lw_g (lw_at lw_m4 89 rfl) rfl
theorem q987 : (Jvm.Cond.selects "CodeExchange$Few" ({ cls := "CodeExchange$Page", name := "match", desc := "(II[II)I" } : Jvm.MethodName) ({ cls := "CodeExchange$Form", name := "match", desc := "(II[II)I" } : Jvm.MethodName)) ∈ lw_all := lw_g (lw_at lw_m4 171 rfl) rfl
theorem q993 : (Jvm.Cond.selects "CodeExchange$Few" ({ cls := "CodeExchange$Form", name := "whole", desc := "([II)I" } : Jvm.MethodName) ({ cls := "CodeExchange$Few", name := "whole", desc := "([II)I" } : Jvm.MethodName)) ∈ lw_all := lw_g (lw_at lw_m4 177 rfl) rfl
theorem q994 : (Jvm.Cond.instanceMethod ({ cls := "CodeExchange$Few", name := "whole", desc := "([II)I" } : Jvm.MethodName)) ∈ lw_all := lw_g (lw_at lw_m4 178 rfl) rfl
theorem q995 : (Jvm.Cond.code ({ cls := "CodeExchange$Few", name := "whole", desc := "([II)I" } : Jvm.MethodName) prog_2_method_6_code (5 : Nat) (Option.some Jvm.ClassFile.FieldType.int)) ∈ lw_all := lw_g (lw_at lw_m4 179 rfl) rfl
theorem q996 : (Jvm.Cond.methodLink "CodeExchange$Few" (19 : Nat) ({ cls := "CodeExchange$Few", name := "length", desc := "(I)I" } : Jvm.MethodName)) ∈ lw_all := lw_g (lw_at lw_m4 180 rfl) rfl
theorem q997 : (Jvm.Cond.static ({ cls := "CodeExchange$Few", name := "length", desc := "(I)I" } : Jvm.MethodName)) ∈ lw_all := lw_g (lw_at lw_m4 181 rfl) rfl
theorem q998 : (Jvm.Cond.code ({ cls := "CodeExchange$Few", name := "length", desc := "(I)I" } : Jvm.MethodName) prog_2_method_3_code (1 : Nat) (Option.some Jvm.ClassFile.FieldType.int)) ∈ lw_all := lw_g (lw_at lw_m4 182 rfl) rfl
theorem q999 : (Jvm.Cond.methodLink "CodeExchange$Few" (23 : Nat) ({ cls := "CodeExchange$Few", name := "isFine", desc := "([II)Z" } : Jvm.MethodName)) ∈ lw_all := lw_g (lw_at lw_m4 183 rfl) rfl
theorem q1000 : (Jvm.Cond.static ({ cls := "CodeExchange$Few", name := "isFine", desc := "([II)Z" } : Jvm.MethodName)) ∈ lw_all := lw_g (lw_at lw_m4 184 rfl) rfl
theorem q1001 : (Jvm.Cond.code ({ cls := "CodeExchange$Few", name := "isFine", desc := "([II)Z" } : Jvm.MethodName) prog_2_method_5_code (4 : Nat) (Option.some Jvm.ClassFile.FieldType.boolean)) ∈ lw_all := lw_g (lw_at lw_m4 185 rfl) rfl
theorem q1002 : (Jvm.Cond.methodLink "CodeExchange$Few" (13 : Nat) ({ cls := "CodeExchange$Few", name := "isSecond", desc := "(II)Z" } : Jvm.MethodName)) ∈ lw_all := lw_g (lw_at lw_m4 186 rfl) rfl
theorem q1003 : (Jvm.Cond.static ({ cls := "CodeExchange$Few", name := "isSecond", desc := "(II)Z" } : Jvm.MethodName)) ∈ lw_all := lw_g (lw_at lw_m4 187 rfl) rfl
theorem q1004 : (Jvm.Cond.code ({ cls := "CodeExchange$Few", name := "isSecond", desc := "(II)Z" } : Jvm.MethodName) prog_2_method_4_code (4 : Nat) (Option.some Jvm.ClassFile.FieldType.boolean)) ∈ lw_all := lw_g (lw_at lw_m4 188 rfl) rfl
theorem q1005 : (Jvm.Cond.methodLinkNest "CodeExchange$Few" (7 : Nat) ({ cls := "CodeExchange", name := "in", desc := "(III)Z" } : Jvm.MethodName) "CodeExchange") ∈ lw_tbl := lw_at lw_m4 189 rfl
theorem q1034 : (Jvm.Cond.selects "CodeExchange$Few" ({ cls := "CodeExchange$Form", name := "begins", desc := "([II)Z" } : Jvm.MethodName) ({ cls := "CodeExchange$Few", name := "begins", desc := "([II)Z" } : Jvm.MethodName)) ∈ lw_all := lw_g (lw_at lw_m4 218 rfl) rfl
theorem q1035 : (Jvm.Cond.instanceMethod ({ cls := "CodeExchange$Few", name := "begins", desc := "([II)Z" } : Jvm.MethodName)) ∈ lw_all := lw_g (lw_at lw_m4 219 rfl) rfl
theorem q1036 : (Jvm.Cond.code ({ cls := "CodeExchange$Few", name := "begins", desc := "([II)Z" } : Jvm.MethodName) prog_2_method_7_code (3 : Nat) (Option.some Jvm.ClassFile.FieldType.boolean)) ∈ lw_all := lw_g (lw_at lw_m4 220 rfl) rfl
theorem q1116 : (Jvm.Cond.selects "CodeExchange$Few" ({ cls := "CodeExchange$Page", name := "way", desc := "(II)J" } : Jvm.MethodName) ({ cls := "CodeExchange$Page", name := "way", desc := "(II)J" } : Jvm.MethodName)) ∈ lw_all := lw_g (lw_at lw_m5 60 rfl) rfl
theorem q1133 : (Jvm.Cond.selects "CodeExchange$Few" ({ cls := "CodeExchange$Page", name := "behind", desc := "(II)I" } : Jvm.MethodName) ({ cls := "CodeExchange$Page", name := "behind", desc := "(II)I" } : Jvm.MethodName)) ∈ lw_all := lw_g (lw_at lw_m5 77 rfl) rfl
theorem q1173 : (Jvm.Cond.selects "CodeExchange$Few" ({ cls := "CodeExchange$Page", name := "end", desc := "(I)J" } : Jvm.MethodName) ({ cls := "CodeExchange$Page", name := "end", desc := "(I)J" } : Jvm.MethodName)) ∈ lw_all := lw_g (lw_at lw_m5 117 rfl) rfl
theorem q1291 : (Jvm.Cond.selects "CodeExchange$Few" ({ cls := "CodeExchange$Page", name := "coverage", desc := "(II)I" } : Jvm.MethodName) ({ cls := "CodeExchange$Page", name := "coverage", desc := "(II)I" } : Jvm.MethodName)) ∈ lw_all := lw_g (lw_at lw_m5 235 rfl) rfl
theorem q1339 : (Jvm.Cond.selects "CodeExchange$Few" ({ cls := "CodeExchange$Page", name := "isReached", desc := "(I)Z" } : Jvm.MethodName) ({ cls := "CodeExchange$Page", name := "isReached", desc := "(I)Z" } : Jvm.MethodName)) ∈ lw_all := lw_g (lw_at lw_m6 43 rfl) rfl
theorem q1965 : (Jvm.Cond.castable "CodeExchange$Few" "CodeExchange$Page") ∈ lw_tbl := lw_at lw_m8 189 rfl
theorem in_X13 : ∀ w ∈ wsX130, w ∈ lw_all := lw_in wsX130 [626, 627, 628] (by decide +kernel) (by decide +kernel)
/-! CodeExchange$Steps -/
set_option maxRecDepth 100000
def RX14 : String := "CodeExchange$Steps"
abbrev cX14_isEmpty : ByteArray := prog_11_method_2_code
def yX14_isEmpty : MethodName := ⟨RX14, "isEmpty", "()Z"⟩
def dkwX14_isEmpty_0 : List UInt8 := [42, 185, 0, 1, 1, 0, 154, 0, 7, 4, 167, 0, 4, 3, 172]
abbrev dktX14_isEmpty_0 : List UInt8 := dkwX14_isEmpty_0 ++ []
theorem dksX14_isEmpty_0 : cX14_isEmpty.data.toList.drop 0 = dktX14_isEmpty_0 := by decide +kernel
theorem dX14_isEmpty_0 : decode cX14_isEmpty 0 = .ok (.aload_n 0, 1) := dk_42 (dk_at dksX14_isEmpty_0 0 rfl rfl)
theorem dX14_isEmpty_1 : decode cX14_isEmpty 1 = .ok (.invokeinterface 1 1, 5) := by decide +kernel
theorem dX14_isEmpty_6 : decode cX14_isEmpty 6 = .ok (.ifCond .ne 7, 3) := dk_154 0 7 (dk_at dksX14_isEmpty_0 6 rfl rfl)
theorem dX14_isEmpty_9 : decode cX14_isEmpty 9 = .ok (.iconst 1, 1) := dk_4 (dk_at dksX14_isEmpty_0 9 rfl rfl)
theorem dX14_isEmpty_10 : decode cX14_isEmpty 10 = .ok (.goto 4, 3) := dk_167 0 4 (dk_at dksX14_isEmpty_0 10 rfl rfl)
theorem dX14_isEmpty_13 : decode cX14_isEmpty 13 = .ok (.iconst 0, 1) := dk_3 (dk_at dksX14_isEmpty_0 13 rfl rfl)
theorem dX14_isEmpty_14 : decode cX14_isEmpty 14 = .ok (.ireturn, 1) := dk_172 (dk_at dksX14_isEmpty_0 14 rfl rfl)
theorem q1254 : (Jvm.Cond.interfaceMethod "CodeExchange$Steps" "CodeExchange$Steps" "isEmpty" "()Z") ∈ lw_tbl := lw_at lw_m5 198 rfl
theorem q1255 : (Jvm.Cond.declares ({ cls := "CodeExchange$Steps", name := "isEmpty", desc := "()Z" } : Jvm.MethodName)) ∈ lw_tbl := lw_at lw_m5 199 rfl
theorem q1258 : (Jvm.Cond.instanceMethod ({ cls := "CodeExchange$Steps", name := "isEmpty", desc := "()Z" } : Jvm.MethodName)) ∈ lw_all := lw_g (lw_at lw_m5 202 rfl) rfl
theorem q1259 : (Jvm.Cond.publicMethod ({ cls := "CodeExchange$Steps", name := "isEmpty", desc := "()Z" } : Jvm.MethodName)) ∈ lw_tbl := lw_at lw_m5 203 rfl
theorem q1260 : (Jvm.Cond.code ({ cls := "CodeExchange$Steps", name := "isEmpty", desc := "()Z" } : Jvm.MethodName) prog_11_method_2_code (1 : Nat) (Option.some Jvm.ClassFile.FieldType.boolean)) ∈ lw_all := lw_g (lw_at lw_m5 204 rfl) rfl
theorem q1261 : (Jvm.Cond.interfaceEntry "CodeExchange$Steps" (1 : Nat)) ∈ lw_tbl := lw_at lw_m5 205 rfl
theorem q1262 : (Jvm.Cond.methodLink "CodeExchange$Steps" (1 : Nat) ({ cls := "CodeExchange$Steps", name := "waits", desc := "()I" } : Jvm.MethodName)) ∈ lw_all := lw_g (lw_at lw_m5 206 rfl) rfl
theorem q1263 : (Jvm.Cond.interfaceMethod "CodeExchange$Steps" "CodeExchange$Steps" "waits" "()I") ∈ lw_tbl := lw_at lw_m5 207 rfl
theorem q1264 : (Jvm.Cond.declares ({ cls := "CodeExchange$Steps", name := "waits", desc := "()I" } : Jvm.MethodName)) ∈ lw_tbl := lw_at lw_m5 208 rfl
