/-! DECODE ROWS BY BYTES: one lemma an opcode; a method's code is cut into short pieces once, and a row reads its own piece alone. -/
set_option maxRecDepth 100000
/-- the code has just these bytes from pc on -/
def DkAt (code : ByteArray) (pc : Nat) (bs : List UInt8) : Prop := ∀ (j : Nat) (b : UInt8), bs[j]? = some b → code.data.toList[pc + j]? = some b
/-- the piece W has the bytes bs from its place j on -/
def dkIn (W : List UInt8) (j : Nat) (bs : List UInt8) : Bool := decide ((W.drop j).take bs.length = bs)
theorem dk_seg {l W T : List UInt8} {o o2 : Nat} (h : l.drop o = W ++ T) (n : Nat) (hn : W.length = n) (ho : o + n = o2) : l.drop o2 = T := by
  subst ho
  rw [← List.drop_drop, h, List.drop_left' hn]
theorem dk_at {code : ByteArray} {W T bs : List UInt8} {o pc : Nat} (h : code.data.toList.drop o = W ++ T) (j : Nat) (hp : o + j = pc) (hw : dkIn W j bs = true) : DkAt code pc bs := by
  subst hp
  intro i b e
  have h1 := of_decide_eq_true hw
  have h2 : i < bs.length := (List.getElem?_eq_some_iff.mp e).1
  have h3 : W[j + i]? = some b := by
    rw [← h1, List.getElem?_take, if_pos h2, List.getElem?_drop] at e
    exact e
  have h4 : j + i < W.length := (List.getElem?_eq_some_iff.mp h3).1
  have h5 : (code.data.toList.drop o)[j + i]? = some b := by
    rw [h, List.getElem?_append_left h4]
    exact h3
  rw [List.getElem?_drop, ← Nat.add_assoc] at h5
  exact h5
theorem dk_u1 {A : ByteArray} {p : Nat} {b : UInt8} (h : A.data.toList[p]? = some b) : (Reader.u1 : Reader DecodeError Nat) A p = .ok (b.toNat, p + 1) := by
  obtain ⟨h1, h2⟩ := List.getElem?_eq_some_iff.mp h
  have h3 : p < A.size := by simpa using h1
  have h4 : A[p]'h3 = b := h2
  have e : (Reader.u1 : Reader DecodeError Nat) A p = (if h : p < A.size then .ok (A[p].toNat, p + 1) else .error (HasTruncated.truncated p)) := by
    show (do if h : p < A.size then do set (p + 1); Pure.pure A[p].toNat else MonadExcept.throw (HasTruncated.truncated p) : Reader DecodeError Nat) A p = _
    by_cases hi : p < A.size
    · rw [dif_pos hi, dif_pos hi]; rfl
    · rw [dif_neg hi, dif_neg hi]; rfl
  rw [e, dif_pos h3, h4]
theorem dk_bind {α β : Type} {r : Reader DecodeError α} {f : α → Reader DecodeError β} {A : ByteArray} {p s : Nat} {a : α} (h : r A p = .ok (a, s)) : (r >>= f) A p = f a A s := by
  show (do let (a, s) ← r A p; f a A s : Except DecodeError (β × Nat)) = _
  rw [h]
  rfl
theorem dk_map {α β : Type} {r : Reader DecodeError α} {g : α → β} {A : ByteArray} {p s : Nat} {a : α} (h : r A p = .ok (a, s)) : (g <$> r) A p = .ok (g a, s) := by
  show (do let (a, s) ← r A p; .ok (g a, s) : Except DecodeError (β × Nat)) = _
  rw [h]
  rfl
theorem dk_u2 {A : ByteArray} {p : Nat} {a b : UInt8} (h : A.data.toList[p]? = some a) (h2 : A.data.toList[p + 1]? = some b) : (Reader.u2 : Reader DecodeError Nat) A p = .ok (a.toNat * 256 + b.toNat, p + 2) := by
  show (Reader.u1 >>= fun hi => Reader.u1 >>= fun lo => Pure.pure (hi * 256 + lo) : Reader DecodeError Nat) A p = _
  rw [dk_bind (dk_u1 h), dk_bind (dk_u1 h2)]
  rfl
theorem dk_of {code : ByteArray} {pc n : Nat} {i : Instr} (h : Decoder.instr pc code pc = .ok (i, pc + n)) : decode code pc = .ok (i, n) := by
  have e : decode code pc = (match Decoder.instr pc code pc with | .error x => .error x | .ok (j, s) => .ok (j, s - pc)) := by
    show (do let (j, s) ← Decoder.instr pc code pc; Pure.pure (j, s - pc) : Except DecodeError (Instr × Nat)) = _
    cases Decoder.instr pc code pc <;> rfl
  rw [e, h]
  show Except.ok (i, pc + n - pc) = _
  rw [Nat.add_sub_cancel_left]
theorem dk_1 {code : ByteArray} {pc : Nat} (h : DkAt code pc [1]) : decode code pc = .ok (.aconst_null, 1) := dk_of ((dk_bind (dk_u1 (h 0 _ rfl))).trans rfl)
theorem dk_2 {code : ByteArray} {pc : Nat} (h : DkAt code pc [2]) : decode code pc = .ok (.iconst (-1), 1) := dk_of ((dk_bind (dk_u1 (h 0 _ rfl))).trans rfl)
theorem dk_3 {code : ByteArray} {pc : Nat} (h : DkAt code pc [3]) : decode code pc = .ok (.iconst 0, 1) := dk_of ((dk_bind (dk_u1 (h 0 _ rfl))).trans rfl)
theorem dk_4 {code : ByteArray} {pc : Nat} (h : DkAt code pc [4]) : decode code pc = .ok (.iconst 1, 1) := dk_of ((dk_bind (dk_u1 (h 0 _ rfl))).trans rfl)
theorem dk_5 {code : ByteArray} {pc : Nat} (h : DkAt code pc [5]) : decode code pc = .ok (.iconst 2, 1) := dk_of ((dk_bind (dk_u1 (h 0 _ rfl))).trans rfl)
theorem dk_6 {code : ByteArray} {pc : Nat} (h : DkAt code pc [6]) : decode code pc = .ok (.iconst 3, 1) := dk_of ((dk_bind (dk_u1 (h 0 _ rfl))).trans rfl)
theorem dk_7 {code : ByteArray} {pc : Nat} (h : DkAt code pc [7]) : decode code pc = .ok (.iconst 4, 1) := dk_of ((dk_bind (dk_u1 (h 0 _ rfl))).trans rfl)
theorem dk_8 {code : ByteArray} {pc : Nat} (h : DkAt code pc [8]) : decode code pc = .ok (.iconst 5, 1) := dk_of ((dk_bind (dk_u1 (h 0 _ rfl))).trans rfl)
theorem dk_9 {code : ByteArray} {pc : Nat} (h : DkAt code pc [9]) : decode code pc = .ok (.lconst 0, 1) := dk_of ((dk_bind (dk_u1 (h 0 _ rfl))).trans rfl)
theorem dk_10 {code : ByteArray} {pc : Nat} (h : DkAt code pc [10]) : decode code pc = .ok (.lconst 1, 1) := dk_of ((dk_bind (dk_u1 (h 0 _ rfl))).trans rfl)
theorem dk_16 {code : ByteArray} {pc : Nat} (a : UInt8) (h : DkAt code pc [16, a]) : decode code pc = .ok (.bipush (Reader.signed 8 a.toNat), 2) := dk_of ((dk_bind (dk_u1 (h 0 _ rfl))).trans ((dk_bind (dk_map (dk_u1 (h 1 _ rfl)))).trans rfl))
theorem dk_17 {code : ByteArray} {pc : Nat} (a b : UInt8) (h : DkAt code pc [17, a, b]) : decode code pc = .ok (.sipush (Reader.signed 16 (a.toNat * 256 + b.toNat)), 3) := dk_of ((dk_bind (dk_u1 (h 0 _ rfl))).trans ((dk_bind (dk_map (dk_u2 (h 1 _ rfl) (h 2 _ rfl)))).trans rfl))
theorem dk_19 {code : ByteArray} {pc : Nat} (a b : UInt8) (h : DkAt code pc [19, a, b]) : decode code pc = .ok (.ldc_w (a.toNat * 256 + b.toNat), 3) := dk_of ((dk_bind (dk_u1 (h 0 _ rfl))).trans ((dk_bind (dk_u2 (h 1 _ rfl) (h 2 _ rfl))).trans rfl))
theorem dk_20 {code : ByteArray} {pc : Nat} (a b : UInt8) (h : DkAt code pc [20, a, b]) : decode code pc = .ok (.ldc2_w (a.toNat * 256 + b.toNat), 3) := dk_of ((dk_bind (dk_u1 (h 0 _ rfl))).trans ((dk_bind (dk_u2 (h 1 _ rfl) (h 2 _ rfl))).trans rfl))
theorem dk_21 {code : ByteArray} {pc : Nat} (a : UInt8) (h : DkAt code pc [21, a]) : decode code pc = .ok (.iload a.toNat, 2) := dk_of ((dk_bind (dk_u1 (h 0 _ rfl))).trans ((dk_bind (dk_u1 (h 1 _ rfl))).trans rfl))
theorem dk_22 {code : ByteArray} {pc : Nat} (a : UInt8) (h : DkAt code pc [22, a]) : decode code pc = .ok (.lload a.toNat, 2) := dk_of ((dk_bind (dk_u1 (h 0 _ rfl))).trans ((dk_bind (dk_u1 (h 1 _ rfl))).trans rfl))
theorem dk_25 {code : ByteArray} {pc : Nat} (a : UInt8) (h : DkAt code pc [25, a]) : decode code pc = .ok (.aload a.toNat, 2) := dk_of ((dk_bind (dk_u1 (h 0 _ rfl))).trans ((dk_bind (dk_u1 (h 1 _ rfl))).trans rfl))
theorem dk_26 {code : ByteArray} {pc : Nat} (h : DkAt code pc [26]) : decode code pc = .ok (.iload_n 0, 1) := dk_of ((dk_bind (dk_u1 (h 0 _ rfl))).trans rfl)
theorem dk_27 {code : ByteArray} {pc : Nat} (h : DkAt code pc [27]) : decode code pc = .ok (.iload_n 1, 1) := dk_of ((dk_bind (dk_u1 (h 0 _ rfl))).trans rfl)
theorem dk_28 {code : ByteArray} {pc : Nat} (h : DkAt code pc [28]) : decode code pc = .ok (.iload_n 2, 1) := dk_of ((dk_bind (dk_u1 (h 0 _ rfl))).trans rfl)
theorem dk_29 {code : ByteArray} {pc : Nat} (h : DkAt code pc [29]) : decode code pc = .ok (.iload_n 3, 1) := dk_of ((dk_bind (dk_u1 (h 0 _ rfl))).trans rfl)
theorem dk_30 {code : ByteArray} {pc : Nat} (h : DkAt code pc [30]) : decode code pc = .ok (.lload_n 0, 1) := dk_of ((dk_bind (dk_u1 (h 0 _ rfl))).trans rfl)
theorem dk_31 {code : ByteArray} {pc : Nat} (h : DkAt code pc [31]) : decode code pc = .ok (.lload_n 1, 1) := dk_of ((dk_bind (dk_u1 (h 0 _ rfl))).trans rfl)
theorem dk_32 {code : ByteArray} {pc : Nat} (h : DkAt code pc [32]) : decode code pc = .ok (.lload_n 2, 1) := dk_of ((dk_bind (dk_u1 (h 0 _ rfl))).trans rfl)
theorem dk_33 {code : ByteArray} {pc : Nat} (h : DkAt code pc [33]) : decode code pc = .ok (.lload_n 3, 1) := dk_of ((dk_bind (dk_u1 (h 0 _ rfl))).trans rfl)
theorem dk_42 {code : ByteArray} {pc : Nat} (h : DkAt code pc [42]) : decode code pc = .ok (.aload_n 0, 1) := dk_of ((dk_bind (dk_u1 (h 0 _ rfl))).trans rfl)
theorem dk_43 {code : ByteArray} {pc : Nat} (h : DkAt code pc [43]) : decode code pc = .ok (.aload_n 1, 1) := dk_of ((dk_bind (dk_u1 (h 0 _ rfl))).trans rfl)
theorem dk_44 {code : ByteArray} {pc : Nat} (h : DkAt code pc [44]) : decode code pc = .ok (.aload_n 2, 1) := dk_of ((dk_bind (dk_u1 (h 0 _ rfl))).trans rfl)
theorem dk_45 {code : ByteArray} {pc : Nat} (h : DkAt code pc [45]) : decode code pc = .ok (.aload_n 3, 1) := dk_of ((dk_bind (dk_u1 (h 0 _ rfl))).trans rfl)
theorem dk_46 {code : ByteArray} {pc : Nat} (h : DkAt code pc [46]) : decode code pc = .ok (.iaload, 1) := dk_of ((dk_bind (dk_u1 (h 0 _ rfl))).trans rfl)
theorem dk_47 {code : ByteArray} {pc : Nat} (h : DkAt code pc [47]) : decode code pc = .ok (.laload, 1) := dk_of ((dk_bind (dk_u1 (h 0 _ rfl))).trans rfl)
theorem dk_50 {code : ByteArray} {pc : Nat} (h : DkAt code pc [50]) : decode code pc = .ok (.aaload, 1) := dk_of ((dk_bind (dk_u1 (h 0 _ rfl))).trans rfl)
theorem dk_51 {code : ByteArray} {pc : Nat} (h : DkAt code pc [51]) : decode code pc = .ok (.baload, 1) := dk_of ((dk_bind (dk_u1 (h 0 _ rfl))).trans rfl)
theorem dk_54 {code : ByteArray} {pc : Nat} (a : UInt8) (h : DkAt code pc [54, a]) : decode code pc = .ok (.istore a.toNat, 2) := dk_of ((dk_bind (dk_u1 (h 0 _ rfl))).trans ((dk_bind (dk_u1 (h 1 _ rfl))).trans rfl))
theorem dk_55 {code : ByteArray} {pc : Nat} (a : UInt8) (h : DkAt code pc [55, a]) : decode code pc = .ok (.lstore a.toNat, 2) := dk_of ((dk_bind (dk_u1 (h 0 _ rfl))).trans ((dk_bind (dk_u1 (h 1 _ rfl))).trans rfl))
theorem dk_58 {code : ByteArray} {pc : Nat} (a : UInt8) (h : DkAt code pc [58, a]) : decode code pc = .ok (.astore a.toNat, 2) := dk_of ((dk_bind (dk_u1 (h 0 _ rfl))).trans ((dk_bind (dk_u1 (h 1 _ rfl))).trans rfl))
theorem dk_59 {code : ByteArray} {pc : Nat} (h : DkAt code pc [59]) : decode code pc = .ok (.istore_n 0, 1) := dk_of ((dk_bind (dk_u1 (h 0 _ rfl))).trans rfl)
theorem dk_60 {code : ByteArray} {pc : Nat} (h : DkAt code pc [60]) : decode code pc = .ok (.istore_n 1, 1) := dk_of ((dk_bind (dk_u1 (h 0 _ rfl))).trans rfl)
theorem dk_61 {code : ByteArray} {pc : Nat} (h : DkAt code pc [61]) : decode code pc = .ok (.istore_n 2, 1) := dk_of ((dk_bind (dk_u1 (h 0 _ rfl))).trans rfl)
theorem dk_62 {code : ByteArray} {pc : Nat} (h : DkAt code pc [62]) : decode code pc = .ok (.istore_n 3, 1) := dk_of ((dk_bind (dk_u1 (h 0 _ rfl))).trans rfl)
theorem dk_63 {code : ByteArray} {pc : Nat} (h : DkAt code pc [63]) : decode code pc = .ok (.lstore_n 0, 1) := dk_of ((dk_bind (dk_u1 (h 0 _ rfl))).trans rfl)
theorem dk_64 {code : ByteArray} {pc : Nat} (h : DkAt code pc [64]) : decode code pc = .ok (.lstore_n 1, 1) := dk_of ((dk_bind (dk_u1 (h 0 _ rfl))).trans rfl)
theorem dk_65 {code : ByteArray} {pc : Nat} (h : DkAt code pc [65]) : decode code pc = .ok (.lstore_n 2, 1) := dk_of ((dk_bind (dk_u1 (h 0 _ rfl))).trans rfl)
theorem dk_66 {code : ByteArray} {pc : Nat} (h : DkAt code pc [66]) : decode code pc = .ok (.lstore_n 3, 1) := dk_of ((dk_bind (dk_u1 (h 0 _ rfl))).trans rfl)
theorem dk_76 {code : ByteArray} {pc : Nat} (h : DkAt code pc [76]) : decode code pc = .ok (.astore_n 1, 1) := dk_of ((dk_bind (dk_u1 (h 0 _ rfl))).trans rfl)
theorem dk_77 {code : ByteArray} {pc : Nat} (h : DkAt code pc [77]) : decode code pc = .ok (.astore_n 2, 1) := dk_of ((dk_bind (dk_u1 (h 0 _ rfl))).trans rfl)
theorem dk_78 {code : ByteArray} {pc : Nat} (h : DkAt code pc [78]) : decode code pc = .ok (.astore_n 3, 1) := dk_of ((dk_bind (dk_u1 (h 0 _ rfl))).trans rfl)
theorem dk_79 {code : ByteArray} {pc : Nat} (h : DkAt code pc [79]) : decode code pc = .ok (.iastore, 1) := dk_of ((dk_bind (dk_u1 (h 0 _ rfl))).trans rfl)
theorem dk_80 {code : ByteArray} {pc : Nat} (h : DkAt code pc [80]) : decode code pc = .ok (.lastore, 1) := dk_of ((dk_bind (dk_u1 (h 0 _ rfl))).trans rfl)
theorem dk_83 {code : ByteArray} {pc : Nat} (h : DkAt code pc [83]) : decode code pc = .ok (.aastore, 1) := dk_of ((dk_bind (dk_u1 (h 0 _ rfl))).trans rfl)
theorem dk_84 {code : ByteArray} {pc : Nat} (h : DkAt code pc [84]) : decode code pc = .ok (.bastore, 1) := dk_of ((dk_bind (dk_u1 (h 0 _ rfl))).trans rfl)
theorem dk_87 {code : ByteArray} {pc : Nat} (h : DkAt code pc [87]) : decode code pc = .ok (.pop, 1) := dk_of ((dk_bind (dk_u1 (h 0 _ rfl))).trans rfl)
theorem dk_89 {code : ByteArray} {pc : Nat} (h : DkAt code pc [89]) : decode code pc = .ok (.dup, 1) := dk_of ((dk_bind (dk_u1 (h 0 _ rfl))).trans rfl)
theorem dk_92 {code : ByteArray} {pc : Nat} (h : DkAt code pc [92]) : decode code pc = .ok (.dup2, 1) := dk_of ((dk_bind (dk_u1 (h 0 _ rfl))).trans rfl)
theorem dk_96 {code : ByteArray} {pc : Nat} (h : DkAt code pc [96]) : decode code pc = .ok (.iadd, 1) := dk_of ((dk_bind (dk_u1 (h 0 _ rfl))).trans rfl)
theorem dk_97 {code : ByteArray} {pc : Nat} (h : DkAt code pc [97]) : decode code pc = .ok (.ladd, 1) := dk_of ((dk_bind (dk_u1 (h 0 _ rfl))).trans rfl)
theorem dk_100 {code : ByteArray} {pc : Nat} (h : DkAt code pc [100]) : decode code pc = .ok (.isub, 1) := dk_of ((dk_bind (dk_u1 (h 0 _ rfl))).trans rfl)
theorem dk_101 {code : ByteArray} {pc : Nat} (h : DkAt code pc [101]) : decode code pc = .ok (.lsub, 1) := dk_of ((dk_bind (dk_u1 (h 0 _ rfl))).trans rfl)
theorem dk_104 {code : ByteArray} {pc : Nat} (h : DkAt code pc [104]) : decode code pc = .ok (.imul, 1) := dk_of ((dk_bind (dk_u1 (h 0 _ rfl))).trans rfl)
theorem dk_105 {code : ByteArray} {pc : Nat} (h : DkAt code pc [105]) : decode code pc = .ok (.lmul, 1) := dk_of ((dk_bind (dk_u1 (h 0 _ rfl))).trans rfl)
theorem dk_108 {code : ByteArray} {pc : Nat} (h : DkAt code pc [108]) : decode code pc = .ok (.idiv, 1) := dk_of ((dk_bind (dk_u1 (h 0 _ rfl))).trans rfl)
theorem dk_109 {code : ByteArray} {pc : Nat} (h : DkAt code pc [109]) : decode code pc = .ok (.ldiv, 1) := dk_of ((dk_bind (dk_u1 (h 0 _ rfl))).trans rfl)
theorem dk_112 {code : ByteArray} {pc : Nat} (h : DkAt code pc [112]) : decode code pc = .ok (.irem, 1) := dk_of ((dk_bind (dk_u1 (h 0 _ rfl))).trans rfl)
theorem dk_113 {code : ByteArray} {pc : Nat} (h : DkAt code pc [113]) : decode code pc = .ok (.lrem, 1) := dk_of ((dk_bind (dk_u1 (h 0 _ rfl))).trans rfl)
theorem dk_120 {code : ByteArray} {pc : Nat} (h : DkAt code pc [120]) : decode code pc = .ok (.ishl, 1) := dk_of ((dk_bind (dk_u1 (h 0 _ rfl))).trans rfl)
theorem dk_121 {code : ByteArray} {pc : Nat} (h : DkAt code pc [121]) : decode code pc = .ok (.lshl, 1) := dk_of ((dk_bind (dk_u1 (h 0 _ rfl))).trans rfl)
theorem dk_122 {code : ByteArray} {pc : Nat} (h : DkAt code pc [122]) : decode code pc = .ok (.ishr, 1) := dk_of ((dk_bind (dk_u1 (h 0 _ rfl))).trans rfl)
theorem dk_124 {code : ByteArray} {pc : Nat} (h : DkAt code pc [124]) : decode code pc = .ok (.iushr, 1) := dk_of ((dk_bind (dk_u1 (h 0 _ rfl))).trans rfl)
theorem dk_125 {code : ByteArray} {pc : Nat} (h : DkAt code pc [125]) : decode code pc = .ok (.lushr, 1) := dk_of ((dk_bind (dk_u1 (h 0 _ rfl))).trans rfl)
theorem dk_126 {code : ByteArray} {pc : Nat} (h : DkAt code pc [126]) : decode code pc = .ok (.iand, 1) := dk_of ((dk_bind (dk_u1 (h 0 _ rfl))).trans rfl)
theorem dk_127 {code : ByteArray} {pc : Nat} (h : DkAt code pc [127]) : decode code pc = .ok (.land, 1) := dk_of ((dk_bind (dk_u1 (h 0 _ rfl))).trans rfl)
theorem dk_128 {code : ByteArray} {pc : Nat} (h : DkAt code pc [128]) : decode code pc = .ok (.ior, 1) := dk_of ((dk_bind (dk_u1 (h 0 _ rfl))).trans rfl)
theorem dk_129 {code : ByteArray} {pc : Nat} (h : DkAt code pc [129]) : decode code pc = .ok (.lor, 1) := dk_of ((dk_bind (dk_u1 (h 0 _ rfl))).trans rfl)
theorem dk_130 {code : ByteArray} {pc : Nat} (h : DkAt code pc [130]) : decode code pc = .ok (.ixor, 1) := dk_of ((dk_bind (dk_u1 (h 0 _ rfl))).trans rfl)
theorem dk_131 {code : ByteArray} {pc : Nat} (h : DkAt code pc [131]) : decode code pc = .ok (.lxor, 1) := dk_of ((dk_bind (dk_u1 (h 0 _ rfl))).trans rfl)
theorem dk_132 {code : ByteArray} {pc : Nat} (a b : UInt8) (h : DkAt code pc [132, a, b]) : decode code pc = .ok (.iinc a.toNat (Reader.signed 8 b.toNat), 3) := dk_of ((dk_bind (dk_u1 (h 0 _ rfl))).trans ((dk_bind (dk_u1 (h 1 _ rfl))).trans ((dk_bind (dk_map (dk_u1 (h 2 _ rfl)))).trans rfl)))
theorem dk_133 {code : ByteArray} {pc : Nat} (h : DkAt code pc [133]) : decode code pc = .ok (.i2l, 1) := dk_of ((dk_bind (dk_u1 (h 0 _ rfl))).trans rfl)
theorem dk_136 {code : ByteArray} {pc : Nat} (h : DkAt code pc [136]) : decode code pc = .ok (.l2i, 1) := dk_of ((dk_bind (dk_u1 (h 0 _ rfl))).trans rfl)
theorem dk_145 {code : ByteArray} {pc : Nat} (h : DkAt code pc [145]) : decode code pc = .ok (.i2b, 1) := dk_of ((dk_bind (dk_u1 (h 0 _ rfl))).trans rfl)
theorem dk_148 {code : ByteArray} {pc : Nat} (h : DkAt code pc [148]) : decode code pc = .ok (.lcmp, 1) := dk_of ((dk_bind (dk_u1 (h 0 _ rfl))).trans rfl)
theorem dk_153 {code : ByteArray} {pc : Nat} (a b : UInt8) (h : DkAt code pc [153, a, b]) : decode code pc = .ok (.ifCond .eq (Reader.signed 16 (a.toNat * 256 + b.toNat)), 3) := dk_of ((dk_bind (dk_u1 (h 0 _ rfl))).trans ((dk_bind (dk_map (dk_u2 (h 1 _ rfl) (h 2 _ rfl)))).trans rfl))
theorem dk_154 {code : ByteArray} {pc : Nat} (a b : UInt8) (h : DkAt code pc [154, a, b]) : decode code pc = .ok (.ifCond .ne (Reader.signed 16 (a.toNat * 256 + b.toNat)), 3) := dk_of ((dk_bind (dk_u1 (h 0 _ rfl))).trans ((dk_bind (dk_map (dk_u2 (h 1 _ rfl) (h 2 _ rfl)))).trans rfl))
theorem dk_155 {code : ByteArray} {pc : Nat} (a b : UInt8) (h : DkAt code pc [155, a, b]) : decode code pc = .ok (.ifCond .lt (Reader.signed 16 (a.toNat * 256 + b.toNat)), 3) := dk_of ((dk_bind (dk_u1 (h 0 _ rfl))).trans ((dk_bind (dk_map (dk_u2 (h 1 _ rfl) (h 2 _ rfl)))).trans rfl))
theorem dk_156 {code : ByteArray} {pc : Nat} (a b : UInt8) (h : DkAt code pc [156, a, b]) : decode code pc = .ok (.ifCond .ge (Reader.signed 16 (a.toNat * 256 + b.toNat)), 3) := dk_of ((dk_bind (dk_u1 (h 0 _ rfl))).trans ((dk_bind (dk_map (dk_u2 (h 1 _ rfl) (h 2 _ rfl)))).trans rfl))
theorem dk_157 {code : ByteArray} {pc : Nat} (a b : UInt8) (h : DkAt code pc [157, a, b]) : decode code pc = .ok (.ifCond .gt (Reader.signed 16 (a.toNat * 256 + b.toNat)), 3) := dk_of ((dk_bind (dk_u1 (h 0 _ rfl))).trans ((dk_bind (dk_map (dk_u2 (h 1 _ rfl) (h 2 _ rfl)))).trans rfl))
theorem dk_158 {code : ByteArray} {pc : Nat} (a b : UInt8) (h : DkAt code pc [158, a, b]) : decode code pc = .ok (.ifCond .le (Reader.signed 16 (a.toNat * 256 + b.toNat)), 3) := dk_of ((dk_bind (dk_u1 (h 0 _ rfl))).trans ((dk_bind (dk_map (dk_u2 (h 1 _ rfl) (h 2 _ rfl)))).trans rfl))
theorem dk_159 {code : ByteArray} {pc : Nat} (a b : UInt8) (h : DkAt code pc [159, a, b]) : decode code pc = .ok (.if_icmp .eq (Reader.signed 16 (a.toNat * 256 + b.toNat)), 3) := dk_of ((dk_bind (dk_u1 (h 0 _ rfl))).trans ((dk_bind (dk_map (dk_u2 (h 1 _ rfl) (h 2 _ rfl)))).trans rfl))
theorem dk_160 {code : ByteArray} {pc : Nat} (a b : UInt8) (h : DkAt code pc [160, a, b]) : decode code pc = .ok (.if_icmp .ne (Reader.signed 16 (a.toNat * 256 + b.toNat)), 3) := dk_of ((dk_bind (dk_u1 (h 0 _ rfl))).trans ((dk_bind (dk_map (dk_u2 (h 1 _ rfl) (h 2 _ rfl)))).trans rfl))
theorem dk_161 {code : ByteArray} {pc : Nat} (a b : UInt8) (h : DkAt code pc [161, a, b]) : decode code pc = .ok (.if_icmp .lt (Reader.signed 16 (a.toNat * 256 + b.toNat)), 3) := dk_of ((dk_bind (dk_u1 (h 0 _ rfl))).trans ((dk_bind (dk_map (dk_u2 (h 1 _ rfl) (h 2 _ rfl)))).trans rfl))
theorem dk_162 {code : ByteArray} {pc : Nat} (a b : UInt8) (h : DkAt code pc [162, a, b]) : decode code pc = .ok (.if_icmp .ge (Reader.signed 16 (a.toNat * 256 + b.toNat)), 3) := dk_of ((dk_bind (dk_u1 (h 0 _ rfl))).trans ((dk_bind (dk_map (dk_u2 (h 1 _ rfl) (h 2 _ rfl)))).trans rfl))
theorem dk_163 {code : ByteArray} {pc : Nat} (a b : UInt8) (h : DkAt code pc [163, a, b]) : decode code pc = .ok (.if_icmp .gt (Reader.signed 16 (a.toNat * 256 + b.toNat)), 3) := dk_of ((dk_bind (dk_u1 (h 0 _ rfl))).trans ((dk_bind (dk_map (dk_u2 (h 1 _ rfl) (h 2 _ rfl)))).trans rfl))
theorem dk_164 {code : ByteArray} {pc : Nat} (a b : UInt8) (h : DkAt code pc [164, a, b]) : decode code pc = .ok (.if_icmp .le (Reader.signed 16 (a.toNat * 256 + b.toNat)), 3) := dk_of ((dk_bind (dk_u1 (h 0 _ rfl))).trans ((dk_bind (dk_map (dk_u2 (h 1 _ rfl) (h 2 _ rfl)))).trans rfl))
theorem dk_167 {code : ByteArray} {pc : Nat} (a b : UInt8) (h : DkAt code pc [167, a, b]) : decode code pc = .ok (.goto (Reader.signed 16 (a.toNat * 256 + b.toNat)), 3) := dk_of ((dk_bind (dk_u1 (h 0 _ rfl))).trans ((dk_bind (dk_map (dk_u2 (h 1 _ rfl) (h 2 _ rfl)))).trans rfl))
theorem dk_172 {code : ByteArray} {pc : Nat} (h : DkAt code pc [172]) : decode code pc = .ok (.ireturn, 1) := dk_of ((dk_bind (dk_u1 (h 0 _ rfl))).trans rfl)
theorem dk_173 {code : ByteArray} {pc : Nat} (h : DkAt code pc [173]) : decode code pc = .ok (.lreturn, 1) := dk_of ((dk_bind (dk_u1 (h 0 _ rfl))).trans rfl)
theorem dk_176 {code : ByteArray} {pc : Nat} (h : DkAt code pc [176]) : decode code pc = .ok (.areturn, 1) := dk_of ((dk_bind (dk_u1 (h 0 _ rfl))).trans rfl)
theorem dk_177 {code : ByteArray} {pc : Nat} (h : DkAt code pc [177]) : decode code pc = .ok (.return_, 1) := dk_of ((dk_bind (dk_u1 (h 0 _ rfl))).trans rfl)
theorem dk_178 {code : ByteArray} {pc : Nat} (a b : UInt8) (h : DkAt code pc [178, a, b]) : decode code pc = .ok (.getstatic (a.toNat * 256 + b.toNat), 3) := dk_of ((dk_bind (dk_u1 (h 0 _ rfl))).trans ((dk_bind (dk_u2 (h 1 _ rfl) (h 2 _ rfl))).trans rfl))
theorem dk_180 {code : ByteArray} {pc : Nat} (a b : UInt8) (h : DkAt code pc [180, a, b]) : decode code pc = .ok (.getfield (a.toNat * 256 + b.toNat), 3) := dk_of ((dk_bind (dk_u1 (h 0 _ rfl))).trans ((dk_bind (dk_u2 (h 1 _ rfl) (h 2 _ rfl))).trans rfl))
theorem dk_181 {code : ByteArray} {pc : Nat} (a b : UInt8) (h : DkAt code pc [181, a, b]) : decode code pc = .ok (.putfield (a.toNat * 256 + b.toNat), 3) := dk_of ((dk_bind (dk_u1 (h 0 _ rfl))).trans ((dk_bind (dk_u2 (h 1 _ rfl) (h 2 _ rfl))).trans rfl))
theorem dk_182 {code : ByteArray} {pc : Nat} (a b : UInt8) (h : DkAt code pc [182, a, b]) : decode code pc = .ok (.invokevirtual (a.toNat * 256 + b.toNat), 3) := dk_of ((dk_bind (dk_u1 (h 0 _ rfl))).trans ((dk_bind (dk_u2 (h 1 _ rfl) (h 2 _ rfl))).trans rfl))
theorem dk_183 {code : ByteArray} {pc : Nat} (a b : UInt8) (h : DkAt code pc [183, a, b]) : decode code pc = .ok (.invokespecial (a.toNat * 256 + b.toNat), 3) := dk_of ((dk_bind (dk_u1 (h 0 _ rfl))).trans ((dk_bind (dk_u2 (h 1 _ rfl) (h 2 _ rfl))).trans rfl))
theorem dk_184 {code : ByteArray} {pc : Nat} (a b : UInt8) (h : DkAt code pc [184, a, b]) : decode code pc = .ok (.invokestatic (a.toNat * 256 + b.toNat), 3) := dk_of ((dk_bind (dk_u1 (h 0 _ rfl))).trans ((dk_bind (dk_u2 (h 1 _ rfl) (h 2 _ rfl))).trans rfl))
theorem dk_187 {code : ByteArray} {pc : Nat} (a b : UInt8) (h : DkAt code pc [187, a, b]) : decode code pc = .ok (.new (a.toNat * 256 + b.toNat), 3) := dk_of ((dk_bind (dk_u1 (h 0 _ rfl))).trans ((dk_bind (dk_u2 (h 1 _ rfl) (h 2 _ rfl))).trans rfl))
theorem dk_188_4 {code : ByteArray} {pc : Nat} (h : DkAt code pc [188, 4]) : decode code pc = .ok (.newarray .boolean, 2) := dk_of ((dk_bind (dk_u1 (h 0 _ rfl))).trans ((dk_bind (dk_u1 (h 1 _ rfl))).trans rfl))
theorem dk_188_8 {code : ByteArray} {pc : Nat} (h : DkAt code pc [188, 8]) : decode code pc = .ok (.newarray .byte, 2) := dk_of ((dk_bind (dk_u1 (h 0 _ rfl))).trans ((dk_bind (dk_u1 (h 1 _ rfl))).trans rfl))
theorem dk_188_10 {code : ByteArray} {pc : Nat} (h : DkAt code pc [188, 10]) : decode code pc = .ok (.newarray .int, 2) := dk_of ((dk_bind (dk_u1 (h 0 _ rfl))).trans ((dk_bind (dk_u1 (h 1 _ rfl))).trans rfl))
theorem dk_188_11 {code : ByteArray} {pc : Nat} (h : DkAt code pc [188, 11]) : decode code pc = .ok (.newarray .long, 2) := dk_of ((dk_bind (dk_u1 (h 0 _ rfl))).trans ((dk_bind (dk_u1 (h 1 _ rfl))).trans rfl))
theorem dk_189 {code : ByteArray} {pc : Nat} (a b : UInt8) (h : DkAt code pc [189, a, b]) : decode code pc = .ok (.anewarray (a.toNat * 256 + b.toNat), 3) := dk_of ((dk_bind (dk_u1 (h 0 _ rfl))).trans ((dk_bind (dk_u2 (h 1 _ rfl) (h 2 _ rfl))).trans rfl))
theorem dk_190 {code : ByteArray} {pc : Nat} (h : DkAt code pc [190]) : decode code pc = .ok (.arraylength, 1) := dk_of ((dk_bind (dk_u1 (h 0 _ rfl))).trans rfl)
theorem dk_192 {code : ByteArray} {pc : Nat} (a b : UInt8) (h : DkAt code pc [192, a, b]) : decode code pc = .ok (.checkcast (a.toNat * 256 + b.toNat), 3) := dk_of ((dk_bind (dk_u1 (h 0 _ rfl))).trans ((dk_bind (dk_u2 (h 1 _ rfl) (h 2 _ rfl))).trans rfl))
theorem dk_193 {code : ByteArray} {pc : Nat} (a b : UInt8) (h : DkAt code pc [193, a, b]) : decode code pc = .ok (.instanceof (a.toNat * 256 + b.toNat), 3) := dk_of ((dk_bind (dk_u1 (h 0 _ rfl))).trans ((dk_bind (dk_u2 (h 1 _ rfl) (h 2 _ rfl))).trans rfl))
theorem dk_198 {code : ByteArray} {pc : Nat} (a b : UInt8) (h : DkAt code pc [198, a, b]) : decode code pc = .ok (.ifnull (Reader.signed 16 (a.toNat * 256 + b.toNat)), 3) := dk_of ((dk_bind (dk_u1 (h 0 _ rfl))).trans ((dk_bind (dk_map (dk_u2 (h 1 _ rfl) (h 2 _ rfl)))).trans rfl))
theorem dk_199 {code : ByteArray} {pc : Nat} (a b : UInt8) (h : DkAt code pc [199, a, b]) : decode code pc = .ok (.ifnonnull (Reader.signed 16 (a.toNat * 256 + b.toNat)), 3) := dk_of ((dk_bind (dk_u1 (h 0 _ rfl))).trans ((dk_bind (dk_map (dk_u2 (h 1 _ rfl) (h 2 _ rfl)))).trans rfl))
/-! java/lang/Throwable -/
set_option maxRecDepth 100000
def RJ0 : String := "java/lang/Throwable"
def TJ0 : u_T := fun k => match k with
  | 0 => ("java/lang/Throwable", "cause", "Ljava/lang/Throwable;", false)
  | 1 => ("java/lang/Throwable", "stackTrace", "[Ljava/lang/StackTraceElement;", false)
  | 2 => ("java/lang/Throwable", "suppressedExceptions", "Ljava/util/List;", false)
  | 3 => ("java/lang/Throwable", "detailMessage", "Ljava/lang/String;", false)
  | _ => ("java/lang/Throwable", "backtrace", "Ljava/lang/Object;", false)
def tyJ0 : Nat → FieldType := fun k => match k with
  | 0 => .object "java/lang/Throwable"
  | 1 => .array (.object "java/lang/StackTraceElement")
  | 2 => .object "java/util/List"
  | 3 => .object "java/lang/String"
  | _ => .object "java/lang/Object"
abbrev wsJ00 : List Cond := u_ws RJ0 TJ0 5
theorem nmJ0 : ∀ a, a < 5 → ∀ b, b < 5 → a ≠ b → (TJ0 a).2.1 ≠ (TJ0 b).2.1 := by decide +kernel
theorem tyJ0_ok : ∀ k, k < 5 → parseFieldDescriptor (TJ0 k).2.2.1 = some (tyJ0 k) := by decide +kernel
abbrev cJ0_init : ByteArray := prog_24_method_2_code
def yJ0_init : MethodName := ⟨RJ0, "<init>", "(Ljava/lang/String;)V"⟩
def dkwJ0_init_1 : List UInt8 := [182, 0, 27, 87, 42, 43, 181, 0, 31, 177]
abbrev dktJ0_init_1 : List UInt8 := dkwJ0_init_1 ++ []
def dkwJ0_init_0 : List UInt8 := [42, 183, 0, 1, 42, 42, 181, 0, 7, 42, 178, 0, 13, 181, 0, 17, 42, 178, 0, 20, 181, 0, 24, 42]
abbrev dktJ0_init_0 : List UInt8 := dkwJ0_init_0 ++ dktJ0_init_1
theorem dksJ0_init_0 : cJ0_init.data.toList.drop 0 = dktJ0_init_0 := by decide +kernel
theorem dksJ0_init_1 : cJ0_init.data.toList.drop 24 = dktJ0_init_1 := dk_seg dksJ0_init_0 24 rfl rfl
theorem dJ0_init_0 : decode cJ0_init 0 = .ok (.aload_n 0, 1) := dk_42 (dk_at dksJ0_init_0 0 rfl rfl)
theorem dJ0_init_1 : decode cJ0_init 1 = .ok (.invokespecial 1, 3) := dk_183 0 1 (dk_at dksJ0_init_0 1 rfl rfl)
theorem dJ0_init_4 : decode cJ0_init 4 = .ok (.aload_n 0, 1) := dk_42 (dk_at dksJ0_init_0 4 rfl rfl)
theorem dJ0_init_5 : decode cJ0_init 5 = .ok (.aload_n 0, 1) := dk_42 (dk_at dksJ0_init_0 5 rfl rfl)
theorem dJ0_init_6 : decode cJ0_init 6 = .ok (.putfield 7, 3) := dk_181 0 7 (dk_at dksJ0_init_0 6 rfl rfl)
theorem dJ0_init_9 : decode cJ0_init 9 = .ok (.aload_n 0, 1) := dk_42 (dk_at dksJ0_init_0 9 rfl rfl)
theorem dJ0_init_10 : decode cJ0_init 10 = .ok (.getstatic 13, 3) := dk_178 0 13 (dk_at dksJ0_init_0 10 rfl rfl)
theorem dJ0_init_13 : decode cJ0_init 13 = .ok (.putfield 17, 3) := dk_181 0 17 (dk_at dksJ0_init_0 13 rfl rfl)
theorem dJ0_init_16 : decode cJ0_init 16 = .ok (.aload_n 0, 1) := dk_42 (dk_at dksJ0_init_0 16 rfl rfl)
theorem dJ0_init_17 : decode cJ0_init 17 = .ok (.getstatic 20, 3) := dk_178 0 20 (dk_at dksJ0_init_0 17 rfl rfl)
theorem dJ0_init_20 : decode cJ0_init 20 = .ok (.putfield 24, 3) := dk_181 0 24 (dk_at dksJ0_init_0 20 rfl rfl)
theorem dJ0_init_23 : decode cJ0_init 23 = .ok (.aload_n 0, 1) := dk_42 (dk_at dksJ0_init_0 23 rfl rfl)
theorem dJ0_init_24 : decode cJ0_init 24 = .ok (.invokevirtual 27, 3) := dk_182 0 27 (dk_at dksJ0_init_1 0 rfl rfl)
theorem dJ0_init_27 : decode cJ0_init 27 = .ok (.pop, 1) := dk_87 (dk_at dksJ0_init_1 3 rfl rfl)
theorem dJ0_init_28 : decode cJ0_init 28 = .ok (.aload_n 0, 1) := dk_42 (dk_at dksJ0_init_1 4 rfl rfl)
theorem dJ0_init_29 : decode cJ0_init 29 = .ok (.aload_n 1, 1) := dk_43 (dk_at dksJ0_init_1 5 rfl rfl)
theorem dJ0_init_30 : decode cJ0_init 30 = .ok (.putfield 31, 3) := dk_181 0 31 (dk_at dksJ0_init_1 6 rfl rfl)
theorem dJ0_init_33 : decode cJ0_init 33 = .ok (.return_, 1) := dk_177 (dk_at dksJ0_init_1 9 rfl rfl)
abbrev cJ0_init_2 : ByteArray := prog_24_method_1_code
def yJ0_init_2 : MethodName := ⟨RJ0, "<init>", "()V"⟩
def dkwJ0_init_2_1 : List UInt8 := [182, 0, 27, 87, 177]
abbrev dktJ0_init_2_1 : List UInt8 := dkwJ0_init_2_1 ++ []
def dkwJ0_init_2_0 : List UInt8 := [42, 183, 0, 1, 42, 42, 181, 0, 7, 42, 178, 0, 13, 181, 0, 17, 42, 178, 0, 20, 181, 0, 24, 42]
abbrev dktJ0_init_2_0 : List UInt8 := dkwJ0_init_2_0 ++ dktJ0_init_2_1
theorem dksJ0_init_2_0 : cJ0_init_2.data.toList.drop 0 = dktJ0_init_2_0 := by decide +kernel
theorem dksJ0_init_2_1 : cJ0_init_2.data.toList.drop 24 = dktJ0_init_2_1 := dk_seg dksJ0_init_2_0 24 rfl rfl
theorem dJ0_init_2_0 : decode cJ0_init_2 0 = .ok (.aload_n 0, 1) := dk_42 (dk_at dksJ0_init_2_0 0 rfl rfl)
theorem dJ0_init_2_1 : decode cJ0_init_2 1 = .ok (.invokespecial 1, 3) := dk_183 0 1 (dk_at dksJ0_init_2_0 1 rfl rfl)
theorem dJ0_init_2_4 : decode cJ0_init_2 4 = .ok (.aload_n 0, 1) := dk_42 (dk_at dksJ0_init_2_0 4 rfl rfl)
theorem dJ0_init_2_5 : decode cJ0_init_2 5 = .ok (.aload_n 0, 1) := dk_42 (dk_at dksJ0_init_2_0 5 rfl rfl)
theorem dJ0_init_2_6 : decode cJ0_init_2 6 = .ok (.putfield 7, 3) := dk_181 0 7 (dk_at dksJ0_init_2_0 6 rfl rfl)
theorem dJ0_init_2_9 : decode cJ0_init_2 9 = .ok (.aload_n 0, 1) := dk_42 (dk_at dksJ0_init_2_0 9 rfl rfl)
theorem dJ0_init_2_10 : decode cJ0_init_2 10 = .ok (.getstatic 13, 3) := dk_178 0 13 (dk_at dksJ0_init_2_0 10 rfl rfl)
theorem dJ0_init_2_13 : decode cJ0_init_2 13 = .ok (.putfield 17, 3) := dk_181 0 17 (dk_at dksJ0_init_2_0 13 rfl rfl)
theorem dJ0_init_2_16 : decode cJ0_init_2 16 = .ok (.aload_n 0, 1) := dk_42 (dk_at dksJ0_init_2_0 16 rfl rfl)
theorem dJ0_init_2_17 : decode cJ0_init_2 17 = .ok (.getstatic 20, 3) := dk_178 0 20 (dk_at dksJ0_init_2_0 17 rfl rfl)
theorem dJ0_init_2_20 : decode cJ0_init_2 20 = .ok (.putfield 24, 3) := dk_181 0 24 (dk_at dksJ0_init_2_0 20 rfl rfl)
theorem dJ0_init_2_23 : decode cJ0_init_2 23 = .ok (.aload_n 0, 1) := dk_42 (dk_at dksJ0_init_2_0 23 rfl rfl)
theorem dJ0_init_2_24 : decode cJ0_init_2 24 = .ok (.invokevirtual 27, 3) := dk_182 0 27 (dk_at dksJ0_init_2_1 0 rfl rfl)
theorem dJ0_init_2_27 : decode cJ0_init_2 27 = .ok (.pop, 1) := dk_87 (dk_at dksJ0_init_2_1 3 rfl rfl)
theorem dJ0_init_2_28 : decode cJ0_init_2 28 = .ok (.return_, 1) := dk_177 (dk_at dksJ0_init_2_1 4 rfl rfl)
theorem q94 : (Jvm.Cond.initialized "java/lang/Throwable") ∈ lw_all := lw_g (lw_at lw_m1 3 rfl) rfl
theorem q231 : (Jvm.Cond.instanceMethod ({ cls := "java/lang/Throwable", name := "<init>", desc := "(Ljava/lang/String;)V" } : Jvm.MethodName)) ∈ lw_all := lw_g (lw_at lw_m1 140 rfl) rfl
theorem q232 : (Jvm.Cond.code ({ cls := "java/lang/Throwable", name := "<init>", desc := "(Ljava/lang/String;)V" } : Jvm.MethodName) prog_24_method_2_code (2 : Nat) (Option.none : Option Jvm.ClassFile.FieldType)) ∈ lw_all := lw_g (lw_at lw_m1 141 rfl) rfl
theorem q233 : (Jvm.Cond.methodLink "java/lang/Throwable" (1 : Nat) ({ cls := "java/lang/Object", name := "<init>", desc := "()V" } : Jvm.MethodName)) ∈ lw_all := lw_g (lw_at lw_m1 142 rfl) rfl
theorem q234 : (Jvm.Cond.fieldLink "java/lang/Throwable" (13 : Nat) "java/lang/Throwable" "UNASSIGNED_STACK" "[Ljava/lang/StackTraceElement;") ∈ lw_all := lw_g (lw_at lw_m1 143 rfl) rfl
theorem q235 : (Jvm.Cond.laysStatic "java/lang/Throwable" "UNASSIGNED_STACK" "[Ljava/lang/StackTraceElement;") ∈ lw_tbl := lw_at lw_m1 144 rfl
theorem q236 : (Jvm.Cond.fieldLink "java/lang/Throwable" (20 : Nat) "java/lang/Throwable" "SUPPRESSED_SENTINEL" "Ljava/util/List;") ∈ lw_all := lw_g (lw_at lw_m1 145 rfl) rfl
theorem q237 : (Jvm.Cond.laysStatic "java/lang/Throwable" "SUPPRESSED_SENTINEL" "Ljava/util/List;") ∈ lw_tbl := lw_at lw_m1 146 rfl
theorem q238 : (Jvm.Cond.methodLink "java/lang/Throwable" (27 : Nat) ({ cls := "java/lang/Throwable", name := "fillInStackTrace", desc := "()Ljava/lang/Throwable;" } : Jvm.MethodName)) ∈ lw_all := lw_g (lw_at lw_m1 147 rfl) rfl
theorem q239 : (Jvm.Cond.instanceMethod ({ cls := "java/lang/Throwable", name := "fillInStackTrace", desc := "()Ljava/lang/Throwable;" } : Jvm.MethodName)) ∈ lw_all := lw_g (lw_at lw_m1 148 rfl) rfl
theorem q240 : (Jvm.Cond.sameMethod "java/lang/Throwable" "java/lang/Throwable" "fillInStackTrace" "()Ljava/lang/Throwable;") ∈ lw_all := lw_g (lw_at lw_m1 149 rfl) rfl
theorem q255 : (Jvm.Cond.declares ({ cls := "java/lang/Throwable", name := "fillInStackTrace", desc := "()Ljava/lang/Throwable;" } : Jvm.MethodName)) ∈ lw_tbl := lw_at lw_m1 164 rfl
theorem q259 : (Jvm.Cond.codeSync ({ cls := "java/lang/Throwable", name := "fillInStackTrace", desc := "()Ljava/lang/Throwable;" } : Jvm.MethodName) prog_24_method_18_code (1 : Nat) (Option.some (Jvm.ClassFile.FieldType.object "java/lang/Throwable"))) ∈ lw_all := lw_g (lw_at lw_m1 168 rfl) rfl
theorem q260 : (Jvm.Cond.methodLink "java/lang/Throwable" (202 : Nat) ({ cls := "java/lang/Throwable", name := "fillInStackTrace", desc := "(I)Ljava/lang/Throwable;" } : Jvm.MethodName)) ∈ lw_all := lw_g (lw_at lw_m1 169 rfl) rfl
theorem q261 : (Jvm.Cond.privateMethod ({ cls := "java/lang/Throwable", name := "fillInStackTrace", desc := "(I)Ljava/lang/Throwable;" } : Jvm.MethodName)) ∈ lw_tbl := lw_at lw_m1 170 rfl
theorem q262 : (Jvm.Cond.instanceMethod ({ cls := "java/lang/Throwable", name := "fillInStackTrace", desc := "(I)Ljava/lang/Throwable;" } : Jvm.MethodName)) ∈ lw_all := lw_g (lw_at lw_m1 171 rfl) rfl
theorem q263 : (Jvm.Cond.instantiable "java/lang/Throwable" (6 : Nat)) ∈ lw_all := lw_g (lw_at lw_m1 172 rfl) rfl
theorem q264 : (Jvm.Cond.native ({ cls := "java/lang/Throwable", name := "fillInStackTrace", desc := "(I)Ljava/lang/Throwable;" } : Jvm.MethodName)) ∈ lw_all := lw_g (lw_at lw_m1 173 rfl) rfl
theorem q265 : (Jvm.Cond.fieldLink "java/lang/Throwable" (198 : Nat) "java/lang/Throwable" "backtrace" "Ljava/lang/Object;") ∈ lw_all := lw_g (lw_at lw_m1 174 rfl) rfl
theorem q266 : (Jvm.Cond.fieldLink "java/lang/Throwable" (31 : Nat) "java/lang/Throwable" "detailMessage" "Ljava/lang/String;") ∈ lw_all := lw_g (lw_at lw_m1 175 rfl) rfl
theorem q267 : (Jvm.Cond.fieldLink "java/lang/Throwable" (7 : Nat) "java/lang/Throwable" "cause" "Ljava/lang/Throwable;") ∈ lw_all := lw_g (lw_at lw_m1 176 rfl) rfl
theorem q268 : (Jvm.Cond.fieldLink "java/lang/Throwable" (17 : Nat) "java/lang/Throwable" "stackTrace" "[Ljava/lang/StackTraceElement;") ∈ lw_all := lw_g (lw_at lw_m1 177 rfl) rfl
theorem q269 : (Jvm.Cond.fieldLink "java/lang/Throwable" (24 : Nat) "java/lang/Throwable" "suppressedExceptions" "Ljava/util/List;") ∈ lw_all := lw_g (lw_at lw_m1 178 rfl) rfl
theorem q271 : (Jvm.Cond.soleField "java/lang/Throwable" "backtrace") ∈ lw_all := lw_g (lw_at lw_m1 180 rfl) rfl
theorem q273 : (Jvm.Cond.soleField "java/lang/Throwable" "detailMessage") ∈ lw_all := lw_g (lw_at lw_m1 182 rfl) rfl
theorem q275 : (Jvm.Cond.soleField "java/lang/Throwable" "cause") ∈ lw_all := lw_g (lw_at lw_m1 184 rfl) rfl
theorem q277 : (Jvm.Cond.soleField "java/lang/Throwable" "stackTrace") ∈ lw_all := lw_g (lw_at lw_m1 186 rfl) rfl
theorem q279 : (Jvm.Cond.soleField "java/lang/Throwable" "depth") ∈ lw_all := lw_g (lw_at lw_m1 188 rfl) rfl
theorem q281 : (Jvm.Cond.soleField "java/lang/Throwable" "suppressedExceptions") ∈ lw_all := lw_g (lw_at lw_m1 190 rfl) rfl
theorem q288 : (Jvm.Cond.declares ({ cls := "java/lang/Throwable", name := "<init>", desc := "()V" } : Jvm.MethodName)) ∈ lw_tbl := lw_at lw_m1 197 rfl
theorem q289 : (Jvm.Cond.declares ({ cls := "java/lang/Throwable", name := "<init>", desc := "(Ljava/lang/String;)V" } : Jvm.MethodName)) ∈ lw_tbl := lw_at lw_m1 198 rfl
theorem q291 : (Jvm.Cond.lays "java/lang/Throwable" "java/lang/Throwable" "cause" "Ljava/lang/Throwable;") ∈ lw_all := lw_g (lw_at lw_m1 200 rfl) rfl
theorem q292 : (Jvm.Cond.lays "java/lang/Throwable" "java/lang/Throwable" "stackTrace" "[Ljava/lang/StackTraceElement;") ∈ lw_all := lw_g (lw_at lw_m1 201 rfl) rfl
theorem q293 : (Jvm.Cond.lays "java/lang/Throwable" "java/lang/Throwable" "suppressedExceptions" "Ljava/util/List;") ∈ lw_all := lw_g (lw_at lw_m1 202 rfl) rfl
theorem q294 : (Jvm.Cond.lays "java/lang/Throwable" "java/lang/Throwable" "detailMessage" "Ljava/lang/String;") ∈ lw_all := lw_g (lw_at lw_m1 203 rfl) rfl
theorem q295 : (Jvm.Cond.lays "java/lang/Throwable" "java/lang/Throwable" "backtrace" "Ljava/lang/Object;") ∈ lw_all := lw_g (lw_at lw_m1 204 rfl) rfl
theorem q296 : (Jvm.Cond.fieldLink "java/lang/Throwable" (198 : Nat) "java/lang/Throwable" "backtrace" "Ljava/lang/Object;") ∈ lw_all := lw_g (lw_at lw_m1 205 rfl) rfl
theorem q297 : (Jvm.Cond.superclass "java/lang/Throwable" "java/lang/Object") ∈ lw_all := lw_g (lw_at lw_m1 206 rfl) rfl
theorem q298 : (Jvm.Cond.instanceMethod ({ cls := "java/lang/Throwable", name := "<init>", desc := "()V" } : Jvm.MethodName)) ∈ lw_all := lw_g (lw_at lw_m1 207 rfl) rfl
theorem q299 : (Jvm.Cond.code ({ cls := "java/lang/Throwable", name := "<init>", desc := "()V" } : Jvm.MethodName) prog_24_method_1_code (1 : Nat) (Option.none : Option Jvm.ClassFile.FieldType)) ∈ lw_all := lw_g (lw_at lw_m1 208 rfl) rfl
theorem q1538 : (Jvm.Cond.sameMethod "java/lang/Throwable" "java/lang/Throwable" "fillInStackTrace" "(I)Ljava/lang/Throwable;") ∈ lw_all := lw_g (lw_at lw_m7 7 rfl) rfl
theorem in_J0 : ∀ w ∈ wsJ00, w ∈ lw_all := lw_in wsJ00 [291, 292, 293, 294, 295] (by decide +kernel) (by decide +kernel)

/-! java/lang/Exception -/
set_option maxRecDepth 100000
def RJ1 : String := "java/lang/Exception"
abbrev cJ1_init : ByteArray := prog_14_method_2_code
def yJ1_init : MethodName := ⟨RJ1, "<init>", "(Ljava/lang/String;)V"⟩
def dkwJ1_init_0 : List UInt8 := [42, 43, 183, 0, 7, 177]
abbrev dktJ1_init_0 : List UInt8 := dkwJ1_init_0 ++ []
theorem dksJ1_init_0 : cJ1_init.data.toList.drop 0 = dktJ1_init_0 := by decide +kernel
theorem dJ1_init_0 : decode cJ1_init 0 = .ok (.aload_n 0, 1) := dk_42 (dk_at dksJ1_init_0 0 rfl rfl)
theorem dJ1_init_1 : decode cJ1_init 1 = .ok (.aload_n 1, 1) := dk_43 (dk_at dksJ1_init_0 1 rfl rfl)
theorem dJ1_init_2 : decode cJ1_init 2 = .ok (.invokespecial 7, 3) := dk_183 0 7 (dk_at dksJ1_init_0 2 rfl rfl)
theorem dJ1_init_5 : decode cJ1_init 5 = .ok (.return_, 1) := dk_177 (dk_at dksJ1_init_0 5 rfl rfl)
abbrev cJ1_init_2 : ByteArray := prog_14_method_1_code
def yJ1_init_2 : MethodName := ⟨RJ1, "<init>", "()V"⟩
theorem dJ1_init_2_0 : decode cJ1_init_2 0 = .ok (.aload_n 0, 1) := by decide +kernel
theorem dJ1_init_2_1 : decode cJ1_init_2 1 = .ok (.invokespecial 1, 3) := by decide +kernel
theorem dJ1_init_2_4 : decode cJ1_init_2 4 = .ok (.return_, 1) := by decide +kernel
theorem q95 : (Jvm.Cond.initialized "java/lang/Exception") ∈ lw_all := lw_g (lw_at lw_m1 4 rfl) rfl
theorem q228 : (Jvm.Cond.instanceMethod ({ cls := "java/lang/Exception", name := "<init>", desc := "(Ljava/lang/String;)V" } : Jvm.MethodName)) ∈ lw_all := lw_g (lw_at lw_m1 137 rfl) rfl
theorem q229 : (Jvm.Cond.code ({ cls := "java/lang/Exception", name := "<init>", desc := "(Ljava/lang/String;)V" } : Jvm.MethodName) prog_14_method_2_code (2 : Nat) (Option.none : Option Jvm.ClassFile.FieldType)) ∈ lw_all := lw_g (lw_at lw_m1 138 rfl) rfl
theorem q230 : (Jvm.Cond.methodLink "java/lang/Exception" (7 : Nat) ({ cls := "java/lang/Throwable", name := "<init>", desc := "(Ljava/lang/String;)V" } : Jvm.MethodName)) ∈ lw_all := lw_g (lw_at lw_m1 139 rfl) rfl
theorem q258 : (Jvm.Cond.superclass "java/lang/Exception" "java/lang/Throwable") ∈ lw_all := lw_g (lw_at lw_m1 167 rfl) rfl
theorem q286 : (Jvm.Cond.declares ({ cls := "java/lang/Exception", name := "<init>", desc := "()V" } : Jvm.MethodName)) ∈ lw_tbl := lw_at lw_m1 195 rfl
theorem q287 : (Jvm.Cond.declares ({ cls := "java/lang/Exception", name := "<init>", desc := "(Ljava/lang/String;)V" } : Jvm.MethodName)) ∈ lw_tbl := lw_at lw_m1 196 rfl
theorem q327 : (Jvm.Cond.instanceMethod ({ cls := "java/lang/Exception", name := "<init>", desc := "()V" } : Jvm.MethodName)) ∈ lw_all := lw_g (lw_at lw_m1 236 rfl) rfl
theorem q328 : (Jvm.Cond.code ({ cls := "java/lang/Exception", name := "<init>", desc := "()V" } : Jvm.MethodName) prog_14_method_1_code (1 : Nat) (Option.none : Option Jvm.ClassFile.FieldType)) ∈ lw_all := lw_g (lw_at lw_m1 237 rfl) rfl
theorem q329 : (Jvm.Cond.methodLink "java/lang/Exception" (1 : Nat) ({ cls := "java/lang/Throwable", name := "<init>", desc := "()V" } : Jvm.MethodName)) ∈ lw_all := lw_g (lw_at lw_m1 238 rfl) rfl

/-! java/lang/RuntimeException -/
set_option maxRecDepth 100000
def RJ2 : String := "java/lang/RuntimeException"
abbrev cJ2_init : ByteArray := prog_21_method_2_code
def yJ2_init : MethodName := ⟨RJ2, "<init>", "(Ljava/lang/String;)V"⟩
def dkwJ2_init_0 : List UInt8 := [42, 43, 183, 0, 7, 177]
abbrev dktJ2_init_0 : List UInt8 := dkwJ2_init_0 ++ []
theorem dksJ2_init_0 : cJ2_init.data.toList.drop 0 = dktJ2_init_0 := by decide +kernel
theorem dJ2_init_0 : decode cJ2_init 0 = .ok (.aload_n 0, 1) := dk_42 (dk_at dksJ2_init_0 0 rfl rfl)
theorem dJ2_init_1 : decode cJ2_init 1 = .ok (.aload_n 1, 1) := dk_43 (dk_at dksJ2_init_0 1 rfl rfl)
theorem dJ2_init_2 : decode cJ2_init 2 = .ok (.invokespecial 7, 3) := dk_183 0 7 (dk_at dksJ2_init_0 2 rfl rfl)
theorem dJ2_init_5 : decode cJ2_init 5 = .ok (.return_, 1) := dk_177 (dk_at dksJ2_init_0 5 rfl rfl)
abbrev cJ2_init_2 : ByteArray := prog_21_method_1_code
def yJ2_init_2 : MethodName := ⟨RJ2, "<init>", "()V"⟩
theorem dJ2_init_2_0 : decode cJ2_init_2 0 = .ok (.aload_n 0, 1) := by decide +kernel
theorem dJ2_init_2_1 : decode cJ2_init_2 1 = .ok (.invokespecial 1, 3) := by decide +kernel
theorem dJ2_init_2_4 : decode cJ2_init_2 4 = .ok (.return_, 1) := by decide +kernel
theorem q96 : (Jvm.Cond.initialized "java/lang/RuntimeException") ∈ lw_all := lw_g (lw_at lw_m1 5 rfl) rfl
theorem q225 : (Jvm.Cond.instanceMethod ({ cls := "java/lang/RuntimeException", name := "<init>", desc := "(Ljava/lang/String;)V" } : Jvm.MethodName)) ∈ lw_all := lw_g (lw_at lw_m1 134 rfl) rfl
theorem q226 : (Jvm.Cond.code ({ cls := "java/lang/RuntimeException", name := "<init>", desc := "(Ljava/lang/String;)V" } : Jvm.MethodName) prog_21_method_2_code (2 : Nat) (Option.none : Option Jvm.ClassFile.FieldType)) ∈ lw_all := lw_g (lw_at lw_m1 135 rfl) rfl
theorem q227 : (Jvm.Cond.methodLink "java/lang/RuntimeException" (7 : Nat) ({ cls := "java/lang/Exception", name := "<init>", desc := "(Ljava/lang/String;)V" } : Jvm.MethodName)) ∈ lw_all := lw_g (lw_at lw_m1 136 rfl) rfl
theorem q254 : (Jvm.Cond.sameMethod "java/lang/RuntimeException" "java/lang/Throwable" "fillInStackTrace" "()Ljava/lang/Throwable;") ∈ lw_all := lw_g (lw_at lw_m1 163 rfl) rfl
theorem q257 : (Jvm.Cond.superclass "java/lang/RuntimeException" "java/lang/Exception") ∈ lw_all := lw_g (lw_at lw_m1 166 rfl) rfl
theorem q284 : (Jvm.Cond.declares ({ cls := "java/lang/RuntimeException", name := "<init>", desc := "()V" } : Jvm.MethodName)) ∈ lw_tbl := lw_at lw_m1 193 rfl
theorem q285 : (Jvm.Cond.declares ({ cls := "java/lang/RuntimeException", name := "<init>", desc := "(Ljava/lang/String;)V" } : Jvm.MethodName)) ∈ lw_tbl := lw_at lw_m1 194 rfl
theorem q324 : (Jvm.Cond.instanceMethod ({ cls := "java/lang/RuntimeException", name := "<init>", desc := "()V" } : Jvm.MethodName)) ∈ lw_all := lw_g (lw_at lw_m1 233 rfl) rfl
theorem q325 : (Jvm.Cond.code ({ cls := "java/lang/RuntimeException", name := "<init>", desc := "()V" } : Jvm.MethodName) prog_21_method_1_code (1 : Nat) (Option.none : Option Jvm.ClassFile.FieldType)) ∈ lw_all := lw_g (lw_at lw_m1 234 rfl) rfl
theorem q326 : (Jvm.Cond.methodLink "java/lang/RuntimeException" (1 : Nat) ({ cls := "java/lang/Exception", name := "<init>", desc := "()V" } : Jvm.MethodName)) ∈ lw_all := lw_g (lw_at lw_m1 235 rfl) rfl
theorem q344 : (Jvm.Cond.castable "java/lang/RuntimeException" "java/lang/Throwable") ∈ lw_tbl := lw_at lw_m2 13 rfl

/-! java/lang/NegativeArraySizeException -/
set_option maxRecDepth 100000
def RJ3 : String := "java/lang/NegativeArraySizeException"
def TJ3 : u_T := fun k => match k with
  | 0 => ("java/lang/Throwable", "backtrace", "Ljava/lang/Object;", false)
  | 1 => ("java/lang/Throwable", "detailMessage", "Ljava/lang/String;", false)
  | 2 => ("java/lang/Throwable", "cause", "Ljava/lang/Throwable;", false)
  | 3 => ("java/lang/Throwable", "stackTrace", "[Ljava/lang/StackTraceElement;", false)
  | 4 => ("java/lang/Throwable", "depth", "I", false)
  | _ => ("java/lang/Throwable", "suppressedExceptions", "Ljava/util/List;", false)
def tyJ3 : Nat → FieldType := fun k => match k with
  | 0 => .object "java/lang/Object"
  | 1 => .object "java/lang/String"
  | 2 => .object "java/lang/Throwable"
  | 3 => .array (.object "java/lang/StackTraceElement")
  | 4 => .int
  | _ => .object "java/util/List"
abbrev wsJ30 : List Cond := u_ws RJ3 TJ3 6
theorem nmJ3 : ∀ a, a < 6 → ∀ b, b < 6 → a ≠ b → (TJ3 a).2.1 ≠ (TJ3 b).2.1 := by decide +kernel
theorem tyJ3_ok : ∀ k, k < 6 → parseFieldDescriptor (TJ3 k).2.2.1 = some (tyJ3 k) := by decide +kernel
abbrev cJ3_init : ByteArray := prog_19_method_2_code
def yJ3_init : MethodName := ⟨RJ3, "<init>", "(Ljava/lang/String;)V"⟩
def dkwJ3_init_0 : List UInt8 := [42, 43, 183, 0, 7, 177]
abbrev dktJ3_init_0 : List UInt8 := dkwJ3_init_0 ++ []
theorem dksJ3_init_0 : cJ3_init.data.toList.drop 0 = dktJ3_init_0 := by decide +kernel
theorem dJ3_init_0 : decode cJ3_init 0 = .ok (.aload_n 0, 1) := dk_42 (dk_at dksJ3_init_0 0 rfl rfl)
theorem dJ3_init_1 : decode cJ3_init 1 = .ok (.aload_n 1, 1) := dk_43 (dk_at dksJ3_init_0 1 rfl rfl)
theorem dJ3_init_2 : decode cJ3_init 2 = .ok (.invokespecial 7, 3) := dk_183 0 7 (dk_at dksJ3_init_0 2 rfl rfl)
theorem dJ3_init_5 : decode cJ3_init 5 = .ok (.return_, 1) := dk_177 (dk_at dksJ3_init_0 5 rfl rfl)
theorem q97 : (Jvm.Cond.initialized "java/lang/NegativeArraySizeException") ∈ lw_all := lw_g (lw_at lw_m1 6 rfl) rfl
theorem q221 : (Jvm.Cond.instantiable "java/lang/NegativeArraySizeException" (6 : Nat)) ∈ lw_all := lw_g (lw_at lw_m1 130 rfl) rfl
theorem q222 : (Jvm.Cond.instanceMethod ({ cls := "java/lang/NegativeArraySizeException", name := "<init>", desc := "(Ljava/lang/String;)V" } : Jvm.MethodName)) ∈ lw_all := lw_g (lw_at lw_m1 131 rfl) rfl
theorem q223 : (Jvm.Cond.code ({ cls := "java/lang/NegativeArraySizeException", name := "<init>", desc := "(Ljava/lang/String;)V" } : Jvm.MethodName) prog_19_method_2_code (2 : Nat) (Option.none : Option Jvm.ClassFile.FieldType)) ∈ lw_all := lw_g (lw_at lw_m1 132 rfl) rfl
theorem q224 : (Jvm.Cond.methodLink "java/lang/NegativeArraySizeException" (7 : Nat) ({ cls := "java/lang/RuntimeException", name := "<init>", desc := "(Ljava/lang/String;)V" } : Jvm.MethodName)) ∈ lw_all := lw_g (lw_at lw_m1 133 rfl) rfl
theorem q244 : (Jvm.Cond.selects "java/lang/NegativeArraySizeException" ({ cls := "java/lang/Throwable", name := "fillInStackTrace", desc := "()Ljava/lang/Throwable;" } : Jvm.MethodName) ({ cls := "java/lang/Throwable", name := "fillInStackTrace", desc := "()Ljava/lang/Throwable;" } : Jvm.MethodName)) ∈ lw_all := lw_g (lw_at lw_m1 153 rfl) rfl
theorem q270 : (Jvm.Cond.lays "java/lang/NegativeArraySizeException" "java/lang/Throwable" "backtrace" "Ljava/lang/Object;") ∈ lw_all := lw_g (lw_at lw_m1 179 rfl) rfl
theorem q272 : (Jvm.Cond.lays "java/lang/NegativeArraySizeException" "java/lang/Throwable" "detailMessage" "Ljava/lang/String;") ∈ lw_all := lw_g (lw_at lw_m1 181 rfl) rfl
theorem q274 : (Jvm.Cond.lays "java/lang/NegativeArraySizeException" "java/lang/Throwable" "cause" "Ljava/lang/Throwable;") ∈ lw_all := lw_g (lw_at lw_m1 183 rfl) rfl
theorem q276 : (Jvm.Cond.lays "java/lang/NegativeArraySizeException" "java/lang/Throwable" "stackTrace" "[Ljava/lang/StackTraceElement;") ∈ lw_all := lw_g (lw_at lw_m1 185 rfl) rfl
theorem q278 : (Jvm.Cond.lays "java/lang/NegativeArraySizeException" "java/lang/Throwable" "depth" "I") ∈ lw_all := lw_g (lw_at lw_m1 187 rfl) rfl
theorem q280 : (Jvm.Cond.lays "java/lang/NegativeArraySizeException" "java/lang/Throwable" "suppressedExceptions" "Ljava/util/List;") ∈ lw_all := lw_g (lw_at lw_m1 189 rfl) rfl
theorem q282 : (Jvm.Cond.superclass "java/lang/NegativeArraySizeException" "java/lang/RuntimeException") ∈ lw_all := lw_g (lw_at lw_m1 191 rfl) rfl
theorem q283 : (Jvm.Cond.castable "java/lang/NegativeArraySizeException" "java/lang/NegativeArraySizeException") ∈ lw_tbl := lw_at lw_m1 192 rfl
theorem q290 : (Jvm.Cond.selects "java/lang/NegativeArraySizeException" ({ cls := "java/lang/Throwable", name := "fillInStackTrace", desc := "(I)Ljava/lang/Throwable;" } : Jvm.MethodName) ({ cls := "java/lang/Throwable", name := "fillInStackTrace", desc := "(I)Ljava/lang/Throwable;" } : Jvm.MethodName)) ∈ lw_all := lw_g (lw_at lw_m1 199 rfl) rfl
theorem in_J3 : ∀ w ∈ wsJ30, w ∈ lw_all := lw_in wsJ30 [270, 272, 274, 276, 278, 280] (by decide +kernel) (by decide +kernel)

/-! java/lang/String -/
set_option maxRecDepth 100000
def RJ4 : String := "java/lang/String"
def TJ4 : u_T := fun k => match k with
  | 0 => ("java/lang/String", "value", "[B", true)
  | _ => ("java/lang/String", "coder", "B", true)
def tyJ4 : Nat → FieldType := fun k => match k with
  | 0 => .array .byte
  | _ => .byte
abbrev wsJ40 : List Cond := u_ws RJ4 TJ4 2
theorem nmJ4 : ∀ a, a < 2 → ∀ b, b < 2 → a ≠ b → (TJ4 a).2.1 ≠ (TJ4 b).2.1 := by decide +kernel
theorem tyJ4_ok : ∀ k, k < 2 → parseFieldDescriptor (TJ4 k).2.2.1 = some (tyJ4 k) := by decide +kernel
theorem q98 : (Jvm.Cond.initialized "java/lang/String") ∈ lw_all := lw_g (lw_at lw_m1 7 rfl) rfl
theorem q300 : (Jvm.Cond.instantiable "java/lang/String" (4 : Nat)) ∈ lw_all := lw_g (lw_at lw_m1 209 rfl) rfl
theorem q302 : (Jvm.Cond.laysFinal "java/lang/String" "java/lang/String" "value" "[B") ∈ lw_all := lw_g (lw_at lw_m1 211 rfl) rfl
theorem q303 : (Jvm.Cond.soleField "java/lang/String" "value") ∈ lw_all := lw_g (lw_at lw_m1 212 rfl) rfl
theorem q304 : (Jvm.Cond.laysFinal "java/lang/String" "java/lang/String" "coder" "B") ∈ lw_all := lw_g (lw_at lw_m1 213 rfl) rfl
theorem q305 : (Jvm.Cond.soleField "java/lang/String" "coder") ∈ lw_all := lw_g (lw_at lw_m1 214 rfl) rfl
theorem in_J4 : ∀ w ∈ wsJ40, w ∈ lw_all := lw_in wsJ40 [302, 304] (by decide +kernel) (by decide +kernel)

/-! java/lang/NullPointerException -/
set_option maxRecDepth 100000
def RJ5 : String := "java/lang/NullPointerException"
def TJ5 : u_T := fun k => match k with
  | 0 => ("java/lang/Throwable", "backtrace", "Ljava/lang/Object;", false)
  | 1 => ("java/lang/Throwable", "detailMessage", "Ljava/lang/String;", false)
  | 2 => ("java/lang/Throwable", "cause", "Ljava/lang/Throwable;", false)
  | 3 => ("java/lang/Throwable", "stackTrace", "[Ljava/lang/StackTraceElement;", false)
  | 4 => ("java/lang/Throwable", "depth", "I", false)
  | 5 => ("java/lang/Throwable", "suppressedExceptions", "Ljava/util/List;", false)
  | 6 => ("java/lang/NullPointerException", "extendedMessageState", "I", false)
  | _ => ("java/lang/NullPointerException", "extendedMessage", "Ljava/lang/String;", false)
def tyJ5 : Nat → FieldType := fun k => match k with
  | 0 => .object "java/lang/Object"
  | 1 => .object "java/lang/String"
  | 2 => .object "java/lang/Throwable"
  | 3 => .array (.object "java/lang/StackTraceElement")
  | 4 => .int
  | 5 => .object "java/util/List"
  | 6 => .int
  | _ => .object "java/lang/String"
abbrev wsJ50 : List Cond := u_ws RJ5 TJ5 8
theorem nmJ5 : ∀ a, a < 8 → ∀ b, b < 8 → a ≠ b → (TJ5 a).2.1 ≠ (TJ5 b).2.1 := by decide +kernel
theorem tyJ5_ok : ∀ k, k < 8 → parseFieldDescriptor (TJ5 k).2.2.1 = some (tyJ5 k) := by decide +kernel
abbrev cJ5_init : ByteArray := prog_20_method_1_code
def yJ5_init : MethodName := ⟨RJ5, "<init>", "()V"⟩
theorem dJ5_init_0 : decode cJ5_init 0 = .ok (.aload_n 0, 1) := by decide +kernel
theorem dJ5_init_1 : decode cJ5_init 1 = .ok (.invokespecial 1, 3) := by decide +kernel
theorem dJ5_init_4 : decode cJ5_init 4 = .ok (.return_, 1) := by decide +kernel
theorem q99 : (Jvm.Cond.initialized "java/lang/NullPointerException") ∈ lw_all := lw_g (lw_at lw_m1 8 rfl) rfl
theorem q245 : (Jvm.Cond.selects "java/lang/NullPointerException" ({ cls := "java/lang/Throwable", name := "fillInStackTrace", desc := "()Ljava/lang/Throwable;" } : Jvm.MethodName) ({ cls := "java/lang/NullPointerException", name := "fillInStackTrace", desc := "()Ljava/lang/Throwable;" } : Jvm.MethodName)) ∈ lw_all := lw_g (lw_at lw_m1 154 rfl) rfl
theorem q246 : (Jvm.Cond.instanceMethod ({ cls := "java/lang/NullPointerException", name := "fillInStackTrace", desc := "()Ljava/lang/Throwable;" } : Jvm.MethodName)) ∈ lw_all := lw_g (lw_at lw_m1 155 rfl) rfl
theorem q247 : (Jvm.Cond.codeSync ({ cls := "java/lang/NullPointerException", name := "fillInStackTrace", desc := "()Ljava/lang/Throwable;" } : Jvm.MethodName) prog_20_method_3_code (1 : Nat) (Option.some (Jvm.ClassFile.FieldType.object "java/lang/Throwable"))) ∈ lw_all := lw_g (lw_at lw_m1 156 rfl) rfl
theorem q248 : (Jvm.Cond.methodLink "java/lang/NullPointerException" (16 : Nat) ({ cls := "java/lang/NullPointerException", name := "getExtendedNPEMessage", desc := "()Ljava/lang/String;" } : Jvm.MethodName)) ∈ lw_all := lw_g (lw_at lw_m1 157 rfl) rfl
theorem q249 : (Jvm.Cond.privateMethod ({ cls := "java/lang/NullPointerException", name := "getExtendedNPEMessage", desc := "()Ljava/lang/String;" } : Jvm.MethodName)) ∈ lw_tbl := lw_at lw_m1 158 rfl
theorem q250 : (Jvm.Cond.instanceMethod ({ cls := "java/lang/NullPointerException", name := "getExtendedNPEMessage", desc := "()Ljava/lang/String;" } : Jvm.MethodName)) ∈ lw_all := lw_g (lw_at lw_m1 159 rfl) rfl
theorem q251 : (Jvm.Cond.instantiable "java/lang/NullPointerException" (8 : Nat)) ∈ lw_all := lw_g (lw_at lw_m1 160 rfl) rfl
theorem q252 : (Jvm.Cond.native ({ cls := "java/lang/NullPointerException", name := "getExtendedNPEMessage", desc := "()Ljava/lang/String;" } : Jvm.MethodName)) ∈ lw_all := lw_g (lw_at lw_m1 161 rfl) rfl
theorem q253 : (Jvm.Cond.methodLink "java/lang/NullPointerException" (24 : Nat) ({ cls := "java/lang/RuntimeException", name := "fillInStackTrace", desc := "()Ljava/lang/Throwable;" } : Jvm.MethodName)) ∈ lw_all := lw_g (lw_at lw_m1 162 rfl) rfl
theorem q256 : (Jvm.Cond.superclass "java/lang/NullPointerException" "java/lang/RuntimeException") ∈ lw_all := lw_g (lw_at lw_m1 165 rfl) rfl
theorem q321 : (Jvm.Cond.instanceMethod ({ cls := "java/lang/NullPointerException", name := "<init>", desc := "()V" } : Jvm.MethodName)) ∈ lw_all := lw_g (lw_at lw_m1 230 rfl) rfl
theorem q322 : (Jvm.Cond.code ({ cls := "java/lang/NullPointerException", name := "<init>", desc := "()V" } : Jvm.MethodName) prog_20_method_1_code (1 : Nat) (Option.none : Option Jvm.ClassFile.FieldType)) ∈ lw_all := lw_g (lw_at lw_m1 231 rfl) rfl
theorem q323 : (Jvm.Cond.methodLink "java/lang/NullPointerException" (1 : Nat) ({ cls := "java/lang/RuntimeException", name := "<init>", desc := "()V" } : Jvm.MethodName)) ∈ lw_all := lw_g (lw_at lw_m1 232 rfl) rfl
theorem q330 : (Jvm.Cond.fieldLink "java/lang/NullPointerException" (10 : Nat) "java/lang/NullPointerException" "extendedMessageState" "I") ∈ lw_all := lw_g (lw_at lw_m1 239 rfl) rfl
theorem q331 : (Jvm.Cond.fieldLink "java/lang/NullPointerException" (20 : Nat) "java/lang/NullPointerException" "extendedMessage" "Ljava/lang/String;") ∈ lw_all := lw_g (lw_at lw_m2 0 rfl) rfl
theorem q332 : (Jvm.Cond.lays "java/lang/NullPointerException" "java/lang/NullPointerException" "extendedMessageState" "I") ∈ lw_all := lw_g (lw_at lw_m2 1 rfl) rfl
theorem q333 : (Jvm.Cond.soleField "java/lang/NullPointerException" "extendedMessageState") ∈ lw_all := lw_g (lw_at lw_m2 2 rfl) rfl
theorem q334 : (Jvm.Cond.lays "java/lang/NullPointerException" "java/lang/NullPointerException" "extendedMessage" "Ljava/lang/String;") ∈ lw_all := lw_g (lw_at lw_m2 3 rfl) rfl
theorem q335 : (Jvm.Cond.soleField "java/lang/NullPointerException" "extendedMessage") ∈ lw_all := lw_g (lw_at lw_m2 4 rfl) rfl
theorem q336 : (Jvm.Cond.lays "java/lang/NullPointerException" "java/lang/Throwable" "backtrace" "Ljava/lang/Object;") ∈ lw_all := lw_g (lw_at lw_m2 5 rfl) rfl
theorem q337 : (Jvm.Cond.lays "java/lang/NullPointerException" "java/lang/Throwable" "detailMessage" "Ljava/lang/String;") ∈ lw_all := lw_g (lw_at lw_m2 6 rfl) rfl
theorem q338 : (Jvm.Cond.lays "java/lang/NullPointerException" "java/lang/Throwable" "cause" "Ljava/lang/Throwable;") ∈ lw_all := lw_g (lw_at lw_m2 7 rfl) rfl
theorem q339 : (Jvm.Cond.lays "java/lang/NullPointerException" "java/lang/Throwable" "stackTrace" "[Ljava/lang/StackTraceElement;") ∈ lw_all := lw_g (lw_at lw_m2 8 rfl) rfl
theorem q340 : (Jvm.Cond.lays "java/lang/NullPointerException" "java/lang/Throwable" "depth" "I") ∈ lw_all := lw_g (lw_at lw_m2 9 rfl) rfl
theorem q341 : (Jvm.Cond.lays "java/lang/NullPointerException" "java/lang/Throwable" "suppressedExceptions" "Ljava/util/List;") ∈ lw_all := lw_g (lw_at lw_m2 10 rfl) rfl
theorem q342 : (Jvm.Cond.castable "java/lang/NullPointerException" "java/lang/NullPointerException") ∈ lw_tbl := lw_at lw_m2 11 rfl
theorem q343 : (Jvm.Cond.selects "java/lang/NullPointerException" ({ cls := "java/lang/Throwable", name := "fillInStackTrace", desc := "(I)Ljava/lang/Throwable;" } : Jvm.MethodName) ({ cls := "java/lang/Throwable", name := "fillInStackTrace", desc := "(I)Ljava/lang/Throwable;" } : Jvm.MethodName)) ∈ lw_all := lw_g (lw_at lw_m2 12 rfl) rfl
theorem in_J5 : ∀ w ∈ wsJ50, w ∈ lw_all := lw_in wsJ50 [336, 337, 338, 339, 340, 341, 332, 334] (by decide +kernel) (by decide +kernel)

/-! java/lang/IndexOutOfBoundsException -/
set_option maxRecDepth 100000
def RJ6 : String := "java/lang/IndexOutOfBoundsException"
abbrev cJ6_init : ByteArray := prog_15_method_2_code
def yJ6_init : MethodName := ⟨RJ6, "<init>", "(Ljava/lang/String;)V"⟩
def dkwJ6_init_0 : List UInt8 := [42, 43, 183, 0, 7, 177]
abbrev dktJ6_init_0 : List UInt8 := dkwJ6_init_0 ++ []
theorem dksJ6_init_0 : cJ6_init.data.toList.drop 0 = dktJ6_init_0 := by decide +kernel
theorem dJ6_init_0 : decode cJ6_init 0 = .ok (.aload_n 0, 1) := dk_42 (dk_at dksJ6_init_0 0 rfl rfl)
theorem dJ6_init_1 : decode cJ6_init 1 = .ok (.aload_n 1, 1) := dk_43 (dk_at dksJ6_init_0 1 rfl rfl)
theorem dJ6_init_2 : decode cJ6_init 2 = .ok (.invokespecial 7, 3) := dk_183 0 7 (dk_at dksJ6_init_0 2 rfl rfl)
theorem dJ6_init_5 : decode cJ6_init 5 = .ok (.return_, 1) := dk_177 (dk_at dksJ6_init_0 5 rfl rfl)
theorem q100 : (Jvm.Cond.initialized "java/lang/IndexOutOfBoundsException") ∈ lw_all := lw_g (lw_at lw_m1 9 rfl) rfl
theorem q350 : (Jvm.Cond.instanceMethod ({ cls := "java/lang/IndexOutOfBoundsException", name := "<init>", desc := "(Ljava/lang/String;)V" } : Jvm.MethodName)) ∈ lw_all := lw_g (lw_at lw_m2 19 rfl) rfl
theorem q351 : (Jvm.Cond.code ({ cls := "java/lang/IndexOutOfBoundsException", name := "<init>", desc := "(Ljava/lang/String;)V" } : Jvm.MethodName) prog_15_method_2_code (2 : Nat) (Option.none : Option Jvm.ClassFile.FieldType)) ∈ lw_all := lw_g (lw_at lw_m2 20 rfl) rfl
theorem q352 : (Jvm.Cond.methodLink "java/lang/IndexOutOfBoundsException" (7 : Nat) ({ cls := "java/lang/RuntimeException", name := "<init>", desc := "(Ljava/lang/String;)V" } : Jvm.MethodName)) ∈ lw_all := lw_g (lw_at lw_m2 21 rfl) rfl
theorem q361 : (Jvm.Cond.declares ({ cls := "java/lang/IndexOutOfBoundsException", name := "<init>", desc := "()V" } : Jvm.MethodName)) ∈ lw_tbl := lw_at lw_m2 30 rfl
theorem q362 : (Jvm.Cond.declares ({ cls := "java/lang/IndexOutOfBoundsException", name := "<init>", desc := "(Ljava/lang/String;)V" } : Jvm.MethodName)) ∈ lw_tbl := lw_at lw_m2 31 rfl

/-! java/lang/ArrayIndexOutOfBoundsException -/
set_option maxRecDepth 100000
def RJ7 : String := "java/lang/ArrayIndexOutOfBoundsException"
def TJ7 : u_T := fun k => match k with
  | 0 => ("java/lang/Throwable", "backtrace", "Ljava/lang/Object;", false)
  | 1 => ("java/lang/Throwable", "detailMessage", "Ljava/lang/String;", false)
  | 2 => ("java/lang/Throwable", "cause", "Ljava/lang/Throwable;", false)
  | 3 => ("java/lang/Throwable", "stackTrace", "[Ljava/lang/StackTraceElement;", false)
  | 4 => ("java/lang/Throwable", "depth", "I", false)
  | _ => ("java/lang/Throwable", "suppressedExceptions", "Ljava/util/List;", false)
def tyJ7 : Nat → FieldType := fun k => match k with
  | 0 => .object "java/lang/Object"
  | 1 => .object "java/lang/String"
  | 2 => .object "java/lang/Throwable"
  | 3 => .array (.object "java/lang/StackTraceElement")
  | 4 => .int
  | _ => .object "java/util/List"
abbrev wsJ70 : List Cond := u_ws RJ7 TJ7 6
theorem nmJ7 : ∀ a, a < 6 → ∀ b, b < 6 → a ≠ b → (TJ7 a).2.1 ≠ (TJ7 b).2.1 := by decide +kernel
theorem tyJ7_ok : ∀ k, k < 6 → parseFieldDescriptor (TJ7 k).2.2.1 = some (tyJ7 k) := by decide +kernel
abbrev cJ7_init : ByteArray := prog_12_method_2_code
def yJ7_init : MethodName := ⟨RJ7, "<init>", "(Ljava/lang/String;)V"⟩
def dkwJ7_init_0 : List UInt8 := [42, 43, 183, 0, 7, 177]
abbrev dktJ7_init_0 : List UInt8 := dkwJ7_init_0 ++ []
theorem dksJ7_init_0 : cJ7_init.data.toList.drop 0 = dktJ7_init_0 := by decide +kernel
theorem dJ7_init_0 : decode cJ7_init 0 = .ok (.aload_n 0, 1) := dk_42 (dk_at dksJ7_init_0 0 rfl rfl)
theorem dJ7_init_1 : decode cJ7_init 1 = .ok (.aload_n 1, 1) := dk_43 (dk_at dksJ7_init_0 1 rfl rfl)
theorem dJ7_init_2 : decode cJ7_init 2 = .ok (.invokespecial 7, 3) := dk_183 0 7 (dk_at dksJ7_init_0 2 rfl rfl)
theorem dJ7_init_5 : decode cJ7_init 5 = .ok (.return_, 1) := dk_177 (dk_at dksJ7_init_0 5 rfl rfl)
theorem q101 : (Jvm.Cond.initialized "java/lang/ArrayIndexOutOfBoundsException") ∈ lw_all := lw_g (lw_at lw_m1 10 rfl) rfl
theorem q242 : (Jvm.Cond.selects "java/lang/ArrayIndexOutOfBoundsException" ({ cls := "java/lang/Throwable", name := "fillInStackTrace", desc := "()Ljava/lang/Throwable;" } : Jvm.MethodName) ({ cls := "java/lang/Throwable", name := "fillInStackTrace", desc := "()Ljava/lang/Throwable;" } : Jvm.MethodName)) ∈ lw_all := lw_g (lw_at lw_m1 151 rfl) rfl
theorem q346 : (Jvm.Cond.instantiable "java/lang/ArrayIndexOutOfBoundsException" (6 : Nat)) ∈ lw_all := lw_g (lw_at lw_m2 15 rfl) rfl
theorem q347 : (Jvm.Cond.instanceMethod ({ cls := "java/lang/ArrayIndexOutOfBoundsException", name := "<init>", desc := "(Ljava/lang/String;)V" } : Jvm.MethodName)) ∈ lw_all := lw_g (lw_at lw_m2 16 rfl) rfl
theorem q348 : (Jvm.Cond.code ({ cls := "java/lang/ArrayIndexOutOfBoundsException", name := "<init>", desc := "(Ljava/lang/String;)V" } : Jvm.MethodName) prog_12_method_2_code (2 : Nat) (Option.none : Option Jvm.ClassFile.FieldType)) ∈ lw_all := lw_g (lw_at lw_m2 17 rfl) rfl
theorem q349 : (Jvm.Cond.methodLink "java/lang/ArrayIndexOutOfBoundsException" (7 : Nat) ({ cls := "java/lang/IndexOutOfBoundsException", name := "<init>", desc := "(Ljava/lang/String;)V" } : Jvm.MethodName)) ∈ lw_all := lw_g (lw_at lw_m2 18 rfl) rfl
theorem q353 : (Jvm.Cond.lays "java/lang/ArrayIndexOutOfBoundsException" "java/lang/Throwable" "backtrace" "Ljava/lang/Object;") ∈ lw_all := lw_g (lw_at lw_m2 22 rfl) rfl
theorem q354 : (Jvm.Cond.lays "java/lang/ArrayIndexOutOfBoundsException" "java/lang/Throwable" "detailMessage" "Ljava/lang/String;") ∈ lw_all := lw_g (lw_at lw_m2 23 rfl) rfl
theorem q355 : (Jvm.Cond.lays "java/lang/ArrayIndexOutOfBoundsException" "java/lang/Throwable" "cause" "Ljava/lang/Throwable;") ∈ lw_all := lw_g (lw_at lw_m2 24 rfl) rfl
theorem q356 : (Jvm.Cond.lays "java/lang/ArrayIndexOutOfBoundsException" "java/lang/Throwable" "stackTrace" "[Ljava/lang/StackTraceElement;") ∈ lw_all := lw_g (lw_at lw_m2 25 rfl) rfl
theorem q357 : (Jvm.Cond.lays "java/lang/ArrayIndexOutOfBoundsException" "java/lang/Throwable" "depth" "I") ∈ lw_all := lw_g (lw_at lw_m2 26 rfl) rfl
theorem q358 : (Jvm.Cond.lays "java/lang/ArrayIndexOutOfBoundsException" "java/lang/Throwable" "suppressedExceptions" "Ljava/util/List;") ∈ lw_all := lw_g (lw_at lw_m2 27 rfl) rfl
theorem q359 : (Jvm.Cond.superclass "java/lang/ArrayIndexOutOfBoundsException" "java/lang/IndexOutOfBoundsException") ∈ lw_all := lw_g (lw_at lw_m2 28 rfl) rfl
theorem q360 : (Jvm.Cond.castable "java/lang/ArrayIndexOutOfBoundsException" "java/lang/ArrayIndexOutOfBoundsException") ∈ lw_tbl := lw_at lw_m2 29 rfl
theorem q363 : (Jvm.Cond.selects "java/lang/ArrayIndexOutOfBoundsException" ({ cls := "java/lang/Throwable", name := "fillInStackTrace", desc := "(I)Ljava/lang/Throwable;" } : Jvm.MethodName) ({ cls := "java/lang/Throwable", name := "fillInStackTrace", desc := "(I)Ljava/lang/Throwable;" } : Jvm.MethodName)) ∈ lw_all := lw_g (lw_at lw_m2 32 rfl) rfl
theorem q1551 : (Jvm.Cond.castable "java/lang/ArrayIndexOutOfBoundsException" "java/lang/IndexOutOfBoundsException") ∈ lw_tbl := lw_at lw_m7 20 rfl
theorem in_J7 : ∀ w ∈ wsJ70, w ∈ lw_all := lw_in wsJ70 [353, 354, 355, 356, 357, 358] (by decide +kernel) (by decide +kernel)

/-! java/lang/ArithmeticException -/
set_option maxRecDepth 100000
def RJ8 : String := "java/lang/ArithmeticException"
def TJ8 : u_T := fun k => match k with
  | 0 => ("java/lang/Throwable", "backtrace", "Ljava/lang/Object;", false)
  | 1 => ("java/lang/Throwable", "detailMessage", "Ljava/lang/String;", false)
  | 2 => ("java/lang/Throwable", "cause", "Ljava/lang/Throwable;", false)
  | 3 => ("java/lang/Throwable", "stackTrace", "[Ljava/lang/StackTraceElement;", false)
  | 4 => ("java/lang/Throwable", "depth", "I", false)
  | _ => ("java/lang/Throwable", "suppressedExceptions", "Ljava/util/List;", false)
def tyJ8 : Nat → FieldType := fun k => match k with
  | 0 => .object "java/lang/Object"
  | 1 => .object "java/lang/String"
  | 2 => .object "java/lang/Throwable"
  | 3 => .array (.object "java/lang/StackTraceElement")
  | 4 => .int
  | _ => .object "java/util/List"
abbrev wsJ80 : List Cond := u_ws RJ8 TJ8 6
theorem nmJ8 : ∀ a, a < 6 → ∀ b, b < 6 → a ≠ b → (TJ8 a).2.1 ≠ (TJ8 b).2.1 := by decide +kernel
theorem tyJ8_ok : ∀ k, k < 6 → parseFieldDescriptor (TJ8 k).2.2.1 = some (tyJ8 k) := by decide +kernel
abbrev cJ8_init : ByteArray := prog_11_method_2_code
def yJ8_init : MethodName := ⟨RJ8, "<init>", "(Ljava/lang/String;)V"⟩
def dkwJ8_init_0 : List UInt8 := [42, 43, 183, 0, 7, 177]
abbrev dktJ8_init_0 : List UInt8 := dkwJ8_init_0 ++ []
theorem dksJ8_init_0 : cJ8_init.data.toList.drop 0 = dktJ8_init_0 := by decide +kernel
theorem dJ8_init_0 : decode cJ8_init 0 = .ok (.aload_n 0, 1) := dk_42 (dk_at dksJ8_init_0 0 rfl rfl)
theorem dJ8_init_1 : decode cJ8_init 1 = .ok (.aload_n 1, 1) := dk_43 (dk_at dksJ8_init_0 1 rfl rfl)
theorem dJ8_init_2 : decode cJ8_init 2 = .ok (.invokespecial 7, 3) := dk_183 0 7 (dk_at dksJ8_init_0 2 rfl rfl)
theorem dJ8_init_5 : decode cJ8_init 5 = .ok (.return_, 1) := dk_177 (dk_at dksJ8_init_0 5 rfl rfl)
theorem q103 : (Jvm.Cond.initialized "java/lang/ArithmeticException") ∈ lw_all := lw_g (lw_at lw_m1 12 rfl) rfl
theorem q241 : (Jvm.Cond.selects "java/lang/ArithmeticException" ({ cls := "java/lang/Throwable", name := "fillInStackTrace", desc := "()Ljava/lang/Throwable;" } : Jvm.MethodName) ({ cls := "java/lang/Throwable", name := "fillInStackTrace", desc := "()Ljava/lang/Throwable;" } : Jvm.MethodName)) ∈ lw_all := lw_g (lw_at lw_m1 150 rfl) rfl
theorem q388 : (Jvm.Cond.instantiable "java/lang/ArithmeticException" (6 : Nat)) ∈ lw_all := lw_g (lw_at lw_m2 57 rfl) rfl
theorem q389 : (Jvm.Cond.instanceMethod ({ cls := "java/lang/ArithmeticException", name := "<init>", desc := "(Ljava/lang/String;)V" } : Jvm.MethodName)) ∈ lw_all := lw_g (lw_at lw_m2 58 rfl) rfl
theorem q390 : (Jvm.Cond.code ({ cls := "java/lang/ArithmeticException", name := "<init>", desc := "(Ljava/lang/String;)V" } : Jvm.MethodName) prog_11_method_2_code (2 : Nat) (Option.none : Option Jvm.ClassFile.FieldType)) ∈ lw_all := lw_g (lw_at lw_m2 59 rfl) rfl
theorem q391 : (Jvm.Cond.methodLink "java/lang/ArithmeticException" (7 : Nat) ({ cls := "java/lang/RuntimeException", name := "<init>", desc := "(Ljava/lang/String;)V" } : Jvm.MethodName)) ∈ lw_all := lw_g (lw_at lw_m2 60 rfl) rfl
theorem q392 : (Jvm.Cond.lays "java/lang/ArithmeticException" "java/lang/Throwable" "backtrace" "Ljava/lang/Object;") ∈ lw_all := lw_g (lw_at lw_m2 61 rfl) rfl
theorem q393 : (Jvm.Cond.lays "java/lang/ArithmeticException" "java/lang/Throwable" "detailMessage" "Ljava/lang/String;") ∈ lw_all := lw_g (lw_at lw_m2 62 rfl) rfl
theorem q394 : (Jvm.Cond.lays "java/lang/ArithmeticException" "java/lang/Throwable" "cause" "Ljava/lang/Throwable;") ∈ lw_all := lw_g (lw_at lw_m2 63 rfl) rfl
theorem q395 : (Jvm.Cond.lays "java/lang/ArithmeticException" "java/lang/Throwable" "stackTrace" "[Ljava/lang/StackTraceElement;") ∈ lw_all := lw_g (lw_at lw_m2 64 rfl) rfl
theorem q396 : (Jvm.Cond.lays "java/lang/ArithmeticException" "java/lang/Throwable" "depth" "I") ∈ lw_all := lw_g (lw_at lw_m2 65 rfl) rfl
theorem q397 : (Jvm.Cond.lays "java/lang/ArithmeticException" "java/lang/Throwable" "suppressedExceptions" "Ljava/util/List;") ∈ lw_all := lw_g (lw_at lw_m2 66 rfl) rfl
theorem q398 : (Jvm.Cond.superclass "java/lang/ArithmeticException" "java/lang/RuntimeException") ∈ lw_all := lw_g (lw_at lw_m2 67 rfl) rfl
theorem q399 : (Jvm.Cond.castable "java/lang/ArithmeticException" "java/lang/ArithmeticException") ∈ lw_tbl := lw_at lw_m2 68 rfl
theorem q400 : (Jvm.Cond.selects "java/lang/ArithmeticException" ({ cls := "java/lang/Throwable", name := "fillInStackTrace", desc := "(I)Ljava/lang/Throwable;" } : Jvm.MethodName) ({ cls := "java/lang/Throwable", name := "fillInStackTrace", desc := "(I)Ljava/lang/Throwable;" } : Jvm.MethodName)) ∈ lw_all := lw_g (lw_at lw_m2 69 rfl) rfl
theorem in_J8 : ∀ w ∈ wsJ80, w ∈ lw_all := lw_in wsJ80 [392, 393, 394, 395, 396, 397] (by decide +kernel) (by decide +kernel)

/-! java/lang/Math -/
set_option maxRecDepth 100000
def RJ9 : String := "java/lang/Math"
abbrev cJ9_min : ByteArray := prog_18_method_69_code
def yJ9_min : MethodName := ⟨RJ9, "min", "(II)I"⟩
def dkwJ9_min_0 : List UInt8 := [26, 27, 163, 0, 7, 26, 167, 0, 4, 27, 172]
abbrev dktJ9_min_0 : List UInt8 := dkwJ9_min_0 ++ []
theorem dksJ9_min_0 : cJ9_min.data.toList.drop 0 = dktJ9_min_0 := by decide +kernel
theorem dJ9_min_0 : decode cJ9_min 0 = .ok (.iload_n 0, 1) := dk_26 (dk_at dksJ9_min_0 0 rfl rfl)
theorem dJ9_min_1 : decode cJ9_min 1 = .ok (.iload_n 1, 1) := dk_27 (dk_at dksJ9_min_0 1 rfl rfl)
theorem dJ9_min_2 : decode cJ9_min 2 = .ok (.if_icmp .gt 7, 3) := dk_163 0 7 (dk_at dksJ9_min_0 2 rfl rfl)
theorem dJ9_min_5 : decode cJ9_min 5 = .ok (.iload_n 0, 1) := dk_26 (dk_at dksJ9_min_0 5 rfl rfl)
theorem dJ9_min_6 : decode cJ9_min 6 = .ok (.goto 4, 3) := dk_167 0 4 (dk_at dksJ9_min_0 6 rfl rfl)
theorem dJ9_min_9 : decode cJ9_min 9 = .ok (.iload_n 1, 1) := dk_27 (dk_at dksJ9_min_0 9 rfl rfl)
theorem dJ9_min_10 : decode cJ9_min 10 = .ok (.ireturn, 1) := dk_172 (dk_at dksJ9_min_0 10 rfl rfl)
abbrev cJ9_max : ByteArray := prog_18_method_65_code
def yJ9_max : MethodName := ⟨RJ9, "max", "(II)I"⟩
def dkwJ9_max_0 : List UInt8 := [26, 27, 161, 0, 7, 26, 167, 0, 4, 27, 172]
abbrev dktJ9_max_0 : List UInt8 := dkwJ9_max_0 ++ []
theorem dksJ9_max_0 : cJ9_max.data.toList.drop 0 = dktJ9_max_0 := by decide +kernel
theorem dJ9_max_0 : decode cJ9_max 0 = .ok (.iload_n 0, 1) := dk_26 (dk_at dksJ9_max_0 0 rfl rfl)
theorem dJ9_max_1 : decode cJ9_max 1 = .ok (.iload_n 1, 1) := dk_27 (dk_at dksJ9_max_0 1 rfl rfl)
theorem dJ9_max_2 : decode cJ9_max 2 = .ok (.if_icmp .lt 7, 3) := dk_161 0 7 (dk_at dksJ9_max_0 2 rfl rfl)
theorem dJ9_max_5 : decode cJ9_max 5 = .ok (.iload_n 0, 1) := dk_26 (dk_at dksJ9_max_0 5 rfl rfl)
theorem dJ9_max_6 : decode cJ9_max 6 = .ok (.goto 4, 3) := dk_167 0 4 (dk_at dksJ9_max_0 6 rfl rfl)
theorem dJ9_max_9 : decode cJ9_max 9 = .ok (.iload_n 1, 1) := dk_27 (dk_at dksJ9_max_0 9 rfl rfl)
theorem dJ9_max_10 : decode cJ9_max 10 = .ok (.ireturn, 1) := dk_172 (dk_at dksJ9_max_0 10 rfl rfl)
theorem q110 : (Jvm.Cond.initialized "java/lang/Math") ∈ lw_all := lw_g (lw_at lw_m1 19 rfl) rfl
theorem q644 : (Jvm.Cond.static ({ cls := "java/lang/Math", name := "min", desc := "(II)I" } : Jvm.MethodName)) ∈ lw_all := lw_g (lw_at lw_m3 73 rfl) rfl
theorem q645 : (Jvm.Cond.code ({ cls := "java/lang/Math", name := "min", desc := "(II)I" } : Jvm.MethodName) prog_18_method_69_code (2 : Nat) (Option.some Jvm.ClassFile.FieldType.int)) ∈ lw_all := lw_g (lw_at lw_m3 74 rfl) rfl
theorem q726 : (Jvm.Cond.static ({ cls := "java/lang/Math", name := "max", desc := "(II)I" } : Jvm.MethodName)) ∈ lw_all := lw_g (lw_at lw_m3 155 rfl) rfl
theorem q727 : (Jvm.Cond.code ({ cls := "java/lang/Math", name := "max", desc := "(II)I" } : Jvm.MethodName) prog_18_method_65_code (2 : Nat) (Option.some Jvm.ClassFile.FieldType.int)) ∈ lw_all := lw_g (lw_at lw_m3 156 rfl) rfl

/-! java/lang/Long -/
set_option maxRecDepth 100000
def RJ10 : String := "java/lang/Long"
abbrev cJ10_bitCount : ByteArray := prog_17_method_50_code
def yJ10_bitCount : MethodName := ⟨RJ10, "bitCount", "(J)I"⟩
def dkwJ10_bitCount_2 : List UInt8 := [30, 30, 16, 32, 125, 97, 63, 30, 136, 16, 127, 126, 172]
abbrev dktJ10_bitCount_2 : List UInt8 := dkwJ10_bitCount_2 ++ []
def dkwJ10_bitCount_1 : List UInt8 := [30, 30, 7, 125, 97, 20, 1, 62, 127, 63, 30, 30, 16, 8, 125, 97, 63, 30, 30, 16, 16, 125, 97, 63]
abbrev dktJ10_bitCount_1 : List UInt8 := dkwJ10_bitCount_1 ++ dktJ10_bitCount_2
def dkwJ10_bitCount_0 : List UInt8 := [30, 30, 4, 125, 20, 1, 58, 127, 101, 63, 30, 20, 1, 60, 127, 30, 5, 125, 20, 1, 60, 127, 97, 63]
abbrev dktJ10_bitCount_0 : List UInt8 := dkwJ10_bitCount_0 ++ dktJ10_bitCount_1
theorem dksJ10_bitCount_0 : cJ10_bitCount.data.toList.drop 0 = dktJ10_bitCount_0 := by decide +kernel
theorem dksJ10_bitCount_1 : cJ10_bitCount.data.toList.drop 24 = dktJ10_bitCount_1 := dk_seg dksJ10_bitCount_0 24 rfl rfl
theorem dksJ10_bitCount_2 : cJ10_bitCount.data.toList.drop 48 = dktJ10_bitCount_2 := dk_seg dksJ10_bitCount_1 24 rfl rfl
theorem dJ10_bitCount_0 : decode cJ10_bitCount 0 = .ok (.lload_n 0, 1) := dk_30 (dk_at dksJ10_bitCount_0 0 rfl rfl)
theorem dJ10_bitCount_1 : decode cJ10_bitCount 1 = .ok (.lload_n 0, 1) := dk_30 (dk_at dksJ10_bitCount_0 1 rfl rfl)
theorem dJ10_bitCount_2 : decode cJ10_bitCount 2 = .ok (.iconst 1, 1) := dk_4 (dk_at dksJ10_bitCount_0 2 rfl rfl)
theorem dJ10_bitCount_3 : decode cJ10_bitCount 3 = .ok (.lushr, 1) := dk_125 (dk_at dksJ10_bitCount_0 3 rfl rfl)
theorem dJ10_bitCount_4 : decode cJ10_bitCount 4 = .ok (.ldc2_w 314, 3) := dk_20 1 58 (dk_at dksJ10_bitCount_0 4 rfl rfl)
theorem dJ10_bitCount_7 : decode cJ10_bitCount 7 = .ok (.land, 1) := dk_127 (dk_at dksJ10_bitCount_0 7 rfl rfl)
theorem dJ10_bitCount_8 : decode cJ10_bitCount 8 = .ok (.lsub, 1) := dk_101 (dk_at dksJ10_bitCount_0 8 rfl rfl)
theorem dJ10_bitCount_9 : decode cJ10_bitCount 9 = .ok (.lstore_n 0, 1) := dk_63 (dk_at dksJ10_bitCount_0 9 rfl rfl)
theorem dJ10_bitCount_10 : decode cJ10_bitCount 10 = .ok (.lload_n 0, 1) := dk_30 (dk_at dksJ10_bitCount_0 10 rfl rfl)
theorem dJ10_bitCount_11 : decode cJ10_bitCount 11 = .ok (.ldc2_w 316, 3) := dk_20 1 60 (dk_at dksJ10_bitCount_0 11 rfl rfl)
theorem dJ10_bitCount_14 : decode cJ10_bitCount 14 = .ok (.land, 1) := dk_127 (dk_at dksJ10_bitCount_0 14 rfl rfl)
theorem dJ10_bitCount_15 : decode cJ10_bitCount 15 = .ok (.lload_n 0, 1) := dk_30 (dk_at dksJ10_bitCount_0 15 rfl rfl)
theorem dJ10_bitCount_16 : decode cJ10_bitCount 16 = .ok (.iconst 2, 1) := dk_5 (dk_at dksJ10_bitCount_0 16 rfl rfl)
theorem dJ10_bitCount_17 : decode cJ10_bitCount 17 = .ok (.lushr, 1) := dk_125 (dk_at dksJ10_bitCount_0 17 rfl rfl)
theorem dJ10_bitCount_18 : decode cJ10_bitCount 18 = .ok (.ldc2_w 316, 3) := dk_20 1 60 (dk_at dksJ10_bitCount_0 18 rfl rfl)
theorem dJ10_bitCount_21 : decode cJ10_bitCount 21 = .ok (.land, 1) := dk_127 (dk_at dksJ10_bitCount_0 21 rfl rfl)
theorem dJ10_bitCount_22 : decode cJ10_bitCount 22 = .ok (.ladd, 1) := dk_97 (dk_at dksJ10_bitCount_0 22 rfl rfl)
theorem dJ10_bitCount_23 : decode cJ10_bitCount 23 = .ok (.lstore_n 0, 1) := dk_63 (dk_at dksJ10_bitCount_0 23 rfl rfl)
theorem dJ10_bitCount_24 : decode cJ10_bitCount 24 = .ok (.lload_n 0, 1) := dk_30 (dk_at dksJ10_bitCount_1 0 rfl rfl)
theorem dJ10_bitCount_25 : decode cJ10_bitCount 25 = .ok (.lload_n 0, 1) := dk_30 (dk_at dksJ10_bitCount_1 1 rfl rfl)
theorem dJ10_bitCount_26 : decode cJ10_bitCount 26 = .ok (.iconst 4, 1) := dk_7 (dk_at dksJ10_bitCount_1 2 rfl rfl)
theorem dJ10_bitCount_27 : decode cJ10_bitCount 27 = .ok (.lushr, 1) := dk_125 (dk_at dksJ10_bitCount_1 3 rfl rfl)
theorem dJ10_bitCount_28 : decode cJ10_bitCount 28 = .ok (.ladd, 1) := dk_97 (dk_at dksJ10_bitCount_1 4 rfl rfl)
theorem dJ10_bitCount_29 : decode cJ10_bitCount 29 = .ok (.ldc2_w 318, 3) := dk_20 1 62 (dk_at dksJ10_bitCount_1 5 rfl rfl)
theorem dJ10_bitCount_32 : decode cJ10_bitCount 32 = .ok (.land, 1) := dk_127 (dk_at dksJ10_bitCount_1 8 rfl rfl)
theorem dJ10_bitCount_33 : decode cJ10_bitCount 33 = .ok (.lstore_n 0, 1) := dk_63 (dk_at dksJ10_bitCount_1 9 rfl rfl)
theorem dJ10_bitCount_34 : decode cJ10_bitCount 34 = .ok (.lload_n 0, 1) := dk_30 (dk_at dksJ10_bitCount_1 10 rfl rfl)
theorem dJ10_bitCount_35 : decode cJ10_bitCount 35 = .ok (.lload_n 0, 1) := dk_30 (dk_at dksJ10_bitCount_1 11 rfl rfl)
theorem dJ10_bitCount_36 : decode cJ10_bitCount 36 = .ok (.bipush 8, 2) := dk_16 8 (dk_at dksJ10_bitCount_1 12 rfl rfl)
theorem dJ10_bitCount_38 : decode cJ10_bitCount 38 = .ok (.lushr, 1) := dk_125 (dk_at dksJ10_bitCount_1 14 rfl rfl)
theorem dJ10_bitCount_39 : decode cJ10_bitCount 39 = .ok (.ladd, 1) := dk_97 (dk_at dksJ10_bitCount_1 15 rfl rfl)
theorem dJ10_bitCount_40 : decode cJ10_bitCount 40 = .ok (.lstore_n 0, 1) := dk_63 (dk_at dksJ10_bitCount_1 16 rfl rfl)
theorem dJ10_bitCount_41 : decode cJ10_bitCount 41 = .ok (.lload_n 0, 1) := dk_30 (dk_at dksJ10_bitCount_1 17 rfl rfl)
theorem dJ10_bitCount_42 : decode cJ10_bitCount 42 = .ok (.lload_n 0, 1) := dk_30 (dk_at dksJ10_bitCount_1 18 rfl rfl)
theorem dJ10_bitCount_43 : decode cJ10_bitCount 43 = .ok (.bipush 16, 2) := dk_16 16 (dk_at dksJ10_bitCount_1 19 rfl rfl)
theorem dJ10_bitCount_45 : decode cJ10_bitCount 45 = .ok (.lushr, 1) := dk_125 (dk_at dksJ10_bitCount_1 21 rfl rfl)
theorem dJ10_bitCount_46 : decode cJ10_bitCount 46 = .ok (.ladd, 1) := dk_97 (dk_at dksJ10_bitCount_1 22 rfl rfl)
theorem dJ10_bitCount_47 : decode cJ10_bitCount 47 = .ok (.lstore_n 0, 1) := dk_63 (dk_at dksJ10_bitCount_1 23 rfl rfl)
theorem dJ10_bitCount_48 : decode cJ10_bitCount 48 = .ok (.lload_n 0, 1) := dk_30 (dk_at dksJ10_bitCount_2 0 rfl rfl)
theorem dJ10_bitCount_49 : decode cJ10_bitCount 49 = .ok (.lload_n 0, 1) := dk_30 (dk_at dksJ10_bitCount_2 1 rfl rfl)
theorem dJ10_bitCount_50 : decode cJ10_bitCount 50 = .ok (.bipush 32, 2) := dk_16 32 (dk_at dksJ10_bitCount_2 2 rfl rfl)
theorem dJ10_bitCount_52 : decode cJ10_bitCount 52 = .ok (.lushr, 1) := dk_125 (dk_at dksJ10_bitCount_2 4 rfl rfl)
theorem dJ10_bitCount_53 : decode cJ10_bitCount 53 = .ok (.ladd, 1) := dk_97 (dk_at dksJ10_bitCount_2 5 rfl rfl)
theorem dJ10_bitCount_54 : decode cJ10_bitCount 54 = .ok (.lstore_n 0, 1) := dk_63 (dk_at dksJ10_bitCount_2 6 rfl rfl)
theorem dJ10_bitCount_55 : decode cJ10_bitCount 55 = .ok (.lload_n 0, 1) := dk_30 (dk_at dksJ10_bitCount_2 7 rfl rfl)
theorem dJ10_bitCount_56 : decode cJ10_bitCount 56 = .ok (.l2i, 1) := dk_136 (dk_at dksJ10_bitCount_2 8 rfl rfl)
theorem dJ10_bitCount_57 : decode cJ10_bitCount 57 = .ok (.bipush 127, 2) := dk_16 127 (dk_at dksJ10_bitCount_2 9 rfl rfl)
theorem dJ10_bitCount_59 : decode cJ10_bitCount 59 = .ok (.iand, 1) := dk_126 (dk_at dksJ10_bitCount_2 11 rfl rfl)
theorem dJ10_bitCount_60 : decode cJ10_bitCount 60 = .ok (.ireturn, 1) := dk_172 (dk_at dksJ10_bitCount_2 12 rfl rfl)
abbrev cJ10_numberOfTrailingZeros : ByteArray := prog_17_method_49_code
def yJ10_numberOfTrailingZeros : MethodName := ⟨RJ10, "numberOfTrailingZeros", "(J)I"⟩
def dkwJ10_numberOfTrailingZeros_1 : List UInt8 := [184, 1, 55, 172]
abbrev dktJ10_numberOfTrailingZeros_1 : List UInt8 := dkwJ10_numberOfTrailingZeros_1 ++ []
def dkwJ10_numberOfTrailingZeros_0 : List UInt8 := [30, 136, 61, 28, 154, 0, 17, 16, 32, 30, 16, 32, 125, 136, 184, 1, 55, 96, 167, 0, 7, 28]
abbrev dktJ10_numberOfTrailingZeros_0 : List UInt8 := dkwJ10_numberOfTrailingZeros_0 ++ dktJ10_numberOfTrailingZeros_1
theorem dksJ10_numberOfTrailingZeros_0 : cJ10_numberOfTrailingZeros.data.toList.drop 0 = dktJ10_numberOfTrailingZeros_0 := by decide +kernel
theorem dksJ10_numberOfTrailingZeros_1 : cJ10_numberOfTrailingZeros.data.toList.drop 22 = dktJ10_numberOfTrailingZeros_1 := dk_seg dksJ10_numberOfTrailingZeros_0 22 rfl rfl
theorem dJ10_numberOfTrailingZeros_0 : decode cJ10_numberOfTrailingZeros 0 = .ok (.lload_n 0, 1) := dk_30 (dk_at dksJ10_numberOfTrailingZeros_0 0 rfl rfl)
theorem dJ10_numberOfTrailingZeros_1 : decode cJ10_numberOfTrailingZeros 1 = .ok (.l2i, 1) := dk_136 (dk_at dksJ10_numberOfTrailingZeros_0 1 rfl rfl)
theorem dJ10_numberOfTrailingZeros_2 : decode cJ10_numberOfTrailingZeros 2 = .ok (.istore_n 2, 1) := dk_61 (dk_at dksJ10_numberOfTrailingZeros_0 2 rfl rfl)
theorem dJ10_numberOfTrailingZeros_3 : decode cJ10_numberOfTrailingZeros 3 = .ok (.iload_n 2, 1) := dk_28 (dk_at dksJ10_numberOfTrailingZeros_0 3 rfl rfl)
theorem dJ10_numberOfTrailingZeros_4 : decode cJ10_numberOfTrailingZeros 4 = .ok (.ifCond .ne 17, 3) := dk_154 0 17 (dk_at dksJ10_numberOfTrailingZeros_0 4 rfl rfl)
theorem dJ10_numberOfTrailingZeros_7 : decode cJ10_numberOfTrailingZeros 7 = .ok (.bipush 32, 2) := dk_16 32 (dk_at dksJ10_numberOfTrailingZeros_0 7 rfl rfl)
theorem dJ10_numberOfTrailingZeros_9 : decode cJ10_numberOfTrailingZeros 9 = .ok (.lload_n 0, 1) := dk_30 (dk_at dksJ10_numberOfTrailingZeros_0 9 rfl rfl)
theorem dJ10_numberOfTrailingZeros_10 : decode cJ10_numberOfTrailingZeros 10 = .ok (.bipush 32, 2) := dk_16 32 (dk_at dksJ10_numberOfTrailingZeros_0 10 rfl rfl)
theorem dJ10_numberOfTrailingZeros_12 : decode cJ10_numberOfTrailingZeros 12 = .ok (.lushr, 1) := dk_125 (dk_at dksJ10_numberOfTrailingZeros_0 12 rfl rfl)
theorem dJ10_numberOfTrailingZeros_13 : decode cJ10_numberOfTrailingZeros 13 = .ok (.l2i, 1) := dk_136 (dk_at dksJ10_numberOfTrailingZeros_0 13 rfl rfl)
theorem dJ10_numberOfTrailingZeros_14 : decode cJ10_numberOfTrailingZeros 14 = .ok (.invokestatic 311, 3) := dk_184 1 55 (dk_at dksJ10_numberOfTrailingZeros_0 14 rfl rfl)
theorem dJ10_numberOfTrailingZeros_17 : decode cJ10_numberOfTrailingZeros 17 = .ok (.iadd, 1) := dk_96 (dk_at dksJ10_numberOfTrailingZeros_0 17 rfl rfl)
theorem dJ10_numberOfTrailingZeros_18 : decode cJ10_numberOfTrailingZeros 18 = .ok (.goto 7, 3) := dk_167 0 7 (dk_at dksJ10_numberOfTrailingZeros_0 18 rfl rfl)
theorem dJ10_numberOfTrailingZeros_21 : decode cJ10_numberOfTrailingZeros 21 = .ok (.iload_n 2, 1) := dk_28 (dk_at dksJ10_numberOfTrailingZeros_0 21 rfl rfl)
theorem dJ10_numberOfTrailingZeros_22 : decode cJ10_numberOfTrailingZeros 22 = .ok (.invokestatic 311, 3) := dk_184 1 55 (dk_at dksJ10_numberOfTrailingZeros_1 0 rfl rfl)
theorem dJ10_numberOfTrailingZeros_25 : decode cJ10_numberOfTrailingZeros 25 = .ok (.ireturn, 1) := dk_172 (dk_at dksJ10_numberOfTrailingZeros_1 3 rfl rfl)
theorem q111 : (Jvm.Cond.initialized "java/lang/Long") ∈ lw_all := lw_g (lw_at lw_m1 20 rfl) rfl
theorem q685 : (Jvm.Cond.static ({ cls := "java/lang/Long", name := "bitCount", desc := "(J)I" } : Jvm.MethodName)) ∈ lw_all := lw_g (lw_at lw_m3 114 rfl) rfl
theorem q686 : (Jvm.Cond.code ({ cls := "java/lang/Long", name := "bitCount", desc := "(J)I" } : Jvm.MethodName) prog_17_method_50_code (2 : Nat) (Option.some Jvm.ClassFile.FieldType.int)) ∈ lw_all := lw_g (lw_at lw_m3 115 rfl) rfl
theorem q687 : (Jvm.Cond.constantLong "java/lang/Long" (314 : Nat) (6148914691236517205 : Int64)) ∈ lw_all := lw_g (lw_at lw_m3 116 rfl) rfl
theorem q688 : (Jvm.Cond.constantLong "java/lang/Long" (316 : Nat) (3689348814741910323 : Int64)) ∈ lw_all := lw_g (lw_at lw_m3 117 rfl) rfl
theorem q689 : (Jvm.Cond.constantLong "java/lang/Long" (318 : Nat) (1085102592571150095 : Int64)) ∈ lw_all := lw_g (lw_at lw_m3 118 rfl) rfl
theorem q837 : (Jvm.Cond.static ({ cls := "java/lang/Long", name := "numberOfTrailingZeros", desc := "(J)I" } : Jvm.MethodName)) ∈ lw_all := lw_g (lw_at lw_m4 26 rfl) rfl
theorem q838 : (Jvm.Cond.code ({ cls := "java/lang/Long", name := "numberOfTrailingZeros", desc := "(J)I" } : Jvm.MethodName) prog_17_method_49_code (3 : Nat) (Option.some Jvm.ClassFile.FieldType.int)) ∈ lw_all := lw_g (lw_at lw_m4 27 rfl) rfl
theorem q839 : (Jvm.Cond.methodLink "java/lang/Long" (311 : Nat) ({ cls := "java/lang/Integer", name := "numberOfTrailingZeros", desc := "(I)I" } : Jvm.MethodName)) ∈ lw_all := lw_g (lw_at lw_m4 28 rfl) rfl

/-! java/lang/ClassCastException -/
set_option maxRecDepth 100000
def RJ11 : String := "java/lang/ClassCastException"
def TJ11 : u_T := fun k => match k with
  | 0 => ("java/lang/Throwable", "backtrace", "Ljava/lang/Object;", false)
  | 1 => ("java/lang/Throwable", "detailMessage", "Ljava/lang/String;", false)
  | 2 => ("java/lang/Throwable", "cause", "Ljava/lang/Throwable;", false)
  | 3 => ("java/lang/Throwable", "stackTrace", "[Ljava/lang/StackTraceElement;", false)
  | 4 => ("java/lang/Throwable", "depth", "I", false)
  | _ => ("java/lang/Throwable", "suppressedExceptions", "Ljava/util/List;", false)
def tyJ11 : Nat → FieldType := fun k => match k with
  | 0 => .object "java/lang/Object"
  | 1 => .object "java/lang/String"
  | 2 => .object "java/lang/Throwable"
  | 3 => .array (.object "java/lang/StackTraceElement")
  | 4 => .int
  | _ => .object "java/util/List"
abbrev wsJ110 : List Cond := u_ws RJ11 TJ11 6
theorem nmJ11 : ∀ a, a < 6 → ∀ b, b < 6 → a ≠ b → (TJ11 a).2.1 ≠ (TJ11 b).2.1 := by decide +kernel
theorem tyJ11_ok : ∀ k, k < 6 → parseFieldDescriptor (TJ11 k).2.2.1 = some (tyJ11 k) := by decide +kernel
abbrev cJ11_init : ByteArray := prog_13_method_2_code
def yJ11_init : MethodName := ⟨RJ11, "<init>", "(Ljava/lang/String;)V"⟩
def dkwJ11_init_0 : List UInt8 := [42, 43, 183, 0, 7, 177]
abbrev dktJ11_init_0 : List UInt8 := dkwJ11_init_0 ++ []
theorem dksJ11_init_0 : cJ11_init.data.toList.drop 0 = dktJ11_init_0 := by decide +kernel
theorem dJ11_init_0 : decode cJ11_init 0 = .ok (.aload_n 0, 1) := dk_42 (dk_at dksJ11_init_0 0 rfl rfl)
theorem dJ11_init_1 : decode cJ11_init 1 = .ok (.aload_n 1, 1) := dk_43 (dk_at dksJ11_init_0 1 rfl rfl)
theorem dJ11_init_2 : decode cJ11_init 2 = .ok (.invokespecial 7, 3) := dk_183 0 7 (dk_at dksJ11_init_0 2 rfl rfl)
theorem dJ11_init_5 : decode cJ11_init 5 = .ok (.return_, 1) := dk_177 (dk_at dksJ11_init_0 5 rfl rfl)
theorem q112 : (Jvm.Cond.initialized "java/lang/ClassCastException") ∈ lw_all := lw_g (lw_at lw_m1 21 rfl) rfl
theorem q243 : (Jvm.Cond.selects "java/lang/ClassCastException" ({ cls := "java/lang/Throwable", name := "fillInStackTrace", desc := "()Ljava/lang/Throwable;" } : Jvm.MethodName) ({ cls := "java/lang/Throwable", name := "fillInStackTrace", desc := "()Ljava/lang/Throwable;" } : Jvm.MethodName)) ∈ lw_all := lw_g (lw_at lw_m1 152 rfl) rfl
theorem q695 : (Jvm.Cond.instantiable "java/lang/ClassCastException" (6 : Nat)) ∈ lw_all := lw_g (lw_at lw_m3 124 rfl) rfl
theorem q696 : (Jvm.Cond.instanceMethod ({ cls := "java/lang/ClassCastException", name := "<init>", desc := "(Ljava/lang/String;)V" } : Jvm.MethodName)) ∈ lw_all := lw_g (lw_at lw_m3 125 rfl) rfl
theorem q697 : (Jvm.Cond.code ({ cls := "java/lang/ClassCastException", name := "<init>", desc := "(Ljava/lang/String;)V" } : Jvm.MethodName) prog_13_method_2_code (2 : Nat) (Option.none : Option Jvm.ClassFile.FieldType)) ∈ lw_all := lw_g (lw_at lw_m3 126 rfl) rfl
theorem q698 : (Jvm.Cond.methodLink "java/lang/ClassCastException" (7 : Nat) ({ cls := "java/lang/RuntimeException", name := "<init>", desc := "(Ljava/lang/String;)V" } : Jvm.MethodName)) ∈ lw_all := lw_g (lw_at lw_m3 127 rfl) rfl
theorem q699 : (Jvm.Cond.lays "java/lang/ClassCastException" "java/lang/Throwable" "backtrace" "Ljava/lang/Object;") ∈ lw_all := lw_g (lw_at lw_m3 128 rfl) rfl
theorem q700 : (Jvm.Cond.lays "java/lang/ClassCastException" "java/lang/Throwable" "detailMessage" "Ljava/lang/String;") ∈ lw_all := lw_g (lw_at lw_m3 129 rfl) rfl
theorem q701 : (Jvm.Cond.lays "java/lang/ClassCastException" "java/lang/Throwable" "cause" "Ljava/lang/Throwable;") ∈ lw_all := lw_g (lw_at lw_m3 130 rfl) rfl
theorem q702 : (Jvm.Cond.lays "java/lang/ClassCastException" "java/lang/Throwable" "stackTrace" "[Ljava/lang/StackTraceElement;") ∈ lw_all := lw_g (lw_at lw_m3 131 rfl) rfl
theorem q703 : (Jvm.Cond.lays "java/lang/ClassCastException" "java/lang/Throwable" "depth" "I") ∈ lw_all := lw_g (lw_at lw_m3 132 rfl) rfl
theorem q704 : (Jvm.Cond.lays "java/lang/ClassCastException" "java/lang/Throwable" "suppressedExceptions" "Ljava/util/List;") ∈ lw_all := lw_g (lw_at lw_m3 133 rfl) rfl
theorem q705 : (Jvm.Cond.superclass "java/lang/ClassCastException" "java/lang/RuntimeException") ∈ lw_all := lw_g (lw_at lw_m3 134 rfl) rfl
theorem q706 : (Jvm.Cond.castable "java/lang/ClassCastException" "java/lang/ClassCastException") ∈ lw_tbl := lw_at lw_m3 135 rfl
theorem q707 : (Jvm.Cond.selects "java/lang/ClassCastException" ({ cls := "java/lang/Throwable", name := "fillInStackTrace", desc := "(I)Ljava/lang/Throwable;" } : Jvm.MethodName) ({ cls := "java/lang/Throwable", name := "fillInStackTrace", desc := "(I)Ljava/lang/Throwable;" } : Jvm.MethodName)) ∈ lw_all := lw_g (lw_at lw_m3 136 rfl) rfl
theorem in_J11 : ∀ w ∈ wsJ110, w ∈ lw_all := lw_in wsJ110 [699, 700, 701, 702, 703, 704] (by decide +kernel) (by decide +kernel)

/-! java/lang/Integer -/
set_option maxRecDepth 100000
def RJ12 : String := "java/lang/Integer"
abbrev cJ12_bitCount : ByteArray := prog_16_method_49_code
def yJ12_bitCount : MethodName := ⟨RJ12, "bitCount", "(I)I"⟩
def dkwJ12_bitCount_2 : List UInt8 := [26, 16, 63, 126, 172]
abbrev dktJ12_bitCount_2 : List UInt8 := dkwJ12_bitCount_2 ++ []
def dkwJ12_bitCount_1 : List UInt8 := [26, 26, 7, 124, 96, 19, 1, 11, 126, 59, 26, 26, 16, 8, 124, 96, 59, 26, 26, 16, 16, 124, 96, 59]
abbrev dktJ12_bitCount_1 : List UInt8 := dkwJ12_bitCount_1 ++ dktJ12_bitCount_2
def dkwJ12_bitCount_0 : List UInt8 := [26, 26, 4, 124, 19, 1, 9, 126, 100, 59, 26, 19, 1, 10, 126, 26, 5, 124, 19, 1, 10, 126, 96, 59]
abbrev dktJ12_bitCount_0 : List UInt8 := dkwJ12_bitCount_0 ++ dktJ12_bitCount_1
theorem dksJ12_bitCount_0 : cJ12_bitCount.data.toList.drop 0 = dktJ12_bitCount_0 := by decide +kernel
theorem dksJ12_bitCount_1 : cJ12_bitCount.data.toList.drop 24 = dktJ12_bitCount_1 := dk_seg dksJ12_bitCount_0 24 rfl rfl
theorem dksJ12_bitCount_2 : cJ12_bitCount.data.toList.drop 48 = dktJ12_bitCount_2 := dk_seg dksJ12_bitCount_1 24 rfl rfl
theorem dJ12_bitCount_0 : decode cJ12_bitCount 0 = .ok (.iload_n 0, 1) := dk_26 (dk_at dksJ12_bitCount_0 0 rfl rfl)
theorem dJ12_bitCount_1 : decode cJ12_bitCount 1 = .ok (.iload_n 0, 1) := dk_26 (dk_at dksJ12_bitCount_0 1 rfl rfl)
theorem dJ12_bitCount_2 : decode cJ12_bitCount 2 = .ok (.iconst 1, 1) := dk_4 (dk_at dksJ12_bitCount_0 2 rfl rfl)
theorem dJ12_bitCount_3 : decode cJ12_bitCount 3 = .ok (.iushr, 1) := dk_124 (dk_at dksJ12_bitCount_0 3 rfl rfl)
theorem dJ12_bitCount_4 : decode cJ12_bitCount 4 = .ok (.ldc_w 265, 3) := dk_19 1 9 (dk_at dksJ12_bitCount_0 4 rfl rfl)
theorem dJ12_bitCount_7 : decode cJ12_bitCount 7 = .ok (.iand, 1) := dk_126 (dk_at dksJ12_bitCount_0 7 rfl rfl)
theorem dJ12_bitCount_8 : decode cJ12_bitCount 8 = .ok (.isub, 1) := dk_100 (dk_at dksJ12_bitCount_0 8 rfl rfl)
theorem dJ12_bitCount_9 : decode cJ12_bitCount 9 = .ok (.istore_n 0, 1) := dk_59 (dk_at dksJ12_bitCount_0 9 rfl rfl)
theorem dJ12_bitCount_10 : decode cJ12_bitCount 10 = .ok (.iload_n 0, 1) := dk_26 (dk_at dksJ12_bitCount_0 10 rfl rfl)
theorem dJ12_bitCount_11 : decode cJ12_bitCount 11 = .ok (.ldc_w 266, 3) := dk_19 1 10 (dk_at dksJ12_bitCount_0 11 rfl rfl)
theorem dJ12_bitCount_14 : decode cJ12_bitCount 14 = .ok (.iand, 1) := dk_126 (dk_at dksJ12_bitCount_0 14 rfl rfl)
theorem dJ12_bitCount_15 : decode cJ12_bitCount 15 = .ok (.iload_n 0, 1) := dk_26 (dk_at dksJ12_bitCount_0 15 rfl rfl)
theorem dJ12_bitCount_16 : decode cJ12_bitCount 16 = .ok (.iconst 2, 1) := dk_5 (dk_at dksJ12_bitCount_0 16 rfl rfl)
theorem dJ12_bitCount_17 : decode cJ12_bitCount 17 = .ok (.iushr, 1) := dk_124 (dk_at dksJ12_bitCount_0 17 rfl rfl)
theorem dJ12_bitCount_18 : decode cJ12_bitCount 18 = .ok (.ldc_w 266, 3) := dk_19 1 10 (dk_at dksJ12_bitCount_0 18 rfl rfl)
theorem dJ12_bitCount_21 : decode cJ12_bitCount 21 = .ok (.iand, 1) := dk_126 (dk_at dksJ12_bitCount_0 21 rfl rfl)
theorem dJ12_bitCount_22 : decode cJ12_bitCount 22 = .ok (.iadd, 1) := dk_96 (dk_at dksJ12_bitCount_0 22 rfl rfl)
theorem dJ12_bitCount_23 : decode cJ12_bitCount 23 = .ok (.istore_n 0, 1) := dk_59 (dk_at dksJ12_bitCount_0 23 rfl rfl)
theorem dJ12_bitCount_24 : decode cJ12_bitCount 24 = .ok (.iload_n 0, 1) := dk_26 (dk_at dksJ12_bitCount_1 0 rfl rfl)
theorem dJ12_bitCount_25 : decode cJ12_bitCount 25 = .ok (.iload_n 0, 1) := dk_26 (dk_at dksJ12_bitCount_1 1 rfl rfl)
theorem dJ12_bitCount_26 : decode cJ12_bitCount 26 = .ok (.iconst 4, 1) := dk_7 (dk_at dksJ12_bitCount_1 2 rfl rfl)
theorem dJ12_bitCount_27 : decode cJ12_bitCount 27 = .ok (.iushr, 1) := dk_124 (dk_at dksJ12_bitCount_1 3 rfl rfl)
theorem dJ12_bitCount_28 : decode cJ12_bitCount 28 = .ok (.iadd, 1) := dk_96 (dk_at dksJ12_bitCount_1 4 rfl rfl)
theorem dJ12_bitCount_29 : decode cJ12_bitCount 29 = .ok (.ldc_w 267, 3) := dk_19 1 11 (dk_at dksJ12_bitCount_1 5 rfl rfl)
theorem dJ12_bitCount_32 : decode cJ12_bitCount 32 = .ok (.iand, 1) := dk_126 (dk_at dksJ12_bitCount_1 8 rfl rfl)
theorem dJ12_bitCount_33 : decode cJ12_bitCount 33 = .ok (.istore_n 0, 1) := dk_59 (dk_at dksJ12_bitCount_1 9 rfl rfl)
theorem dJ12_bitCount_34 : decode cJ12_bitCount 34 = .ok (.iload_n 0, 1) := dk_26 (dk_at dksJ12_bitCount_1 10 rfl rfl)
theorem dJ12_bitCount_35 : decode cJ12_bitCount 35 = .ok (.iload_n 0, 1) := dk_26 (dk_at dksJ12_bitCount_1 11 rfl rfl)
theorem dJ12_bitCount_36 : decode cJ12_bitCount 36 = .ok (.bipush 8, 2) := dk_16 8 (dk_at dksJ12_bitCount_1 12 rfl rfl)
theorem dJ12_bitCount_38 : decode cJ12_bitCount 38 = .ok (.iushr, 1) := dk_124 (dk_at dksJ12_bitCount_1 14 rfl rfl)
theorem dJ12_bitCount_39 : decode cJ12_bitCount 39 = .ok (.iadd, 1) := dk_96 (dk_at dksJ12_bitCount_1 15 rfl rfl)
theorem dJ12_bitCount_40 : decode cJ12_bitCount 40 = .ok (.istore_n 0, 1) := dk_59 (dk_at dksJ12_bitCount_1 16 rfl rfl)
theorem dJ12_bitCount_41 : decode cJ12_bitCount 41 = .ok (.iload_n 0, 1) := dk_26 (dk_at dksJ12_bitCount_1 17 rfl rfl)
theorem dJ12_bitCount_42 : decode cJ12_bitCount 42 = .ok (.iload_n 0, 1) := dk_26 (dk_at dksJ12_bitCount_1 18 rfl rfl)
theorem dJ12_bitCount_43 : decode cJ12_bitCount 43 = .ok (.bipush 16, 2) := dk_16 16 (dk_at dksJ12_bitCount_1 19 rfl rfl)
theorem dJ12_bitCount_45 : decode cJ12_bitCount 45 = .ok (.iushr, 1) := dk_124 (dk_at dksJ12_bitCount_1 21 rfl rfl)
theorem dJ12_bitCount_46 : decode cJ12_bitCount 46 = .ok (.iadd, 1) := dk_96 (dk_at dksJ12_bitCount_1 22 rfl rfl)
theorem dJ12_bitCount_47 : decode cJ12_bitCount 47 = .ok (.istore_n 0, 1) := dk_59 (dk_at dksJ12_bitCount_1 23 rfl rfl)
theorem dJ12_bitCount_48 : decode cJ12_bitCount 48 = .ok (.iload_n 0, 1) := dk_26 (dk_at dksJ12_bitCount_2 0 rfl rfl)
theorem dJ12_bitCount_49 : decode cJ12_bitCount 49 = .ok (.bipush 63, 2) := dk_16 63 (dk_at dksJ12_bitCount_2 1 rfl rfl)
theorem dJ12_bitCount_51 : decode cJ12_bitCount 51 = .ok (.iand, 1) := dk_126 (dk_at dksJ12_bitCount_2 3 rfl rfl)
theorem dJ12_bitCount_52 : decode cJ12_bitCount 52 = .ok (.ireturn, 1) := dk_172 (dk_at dksJ12_bitCount_2 4 rfl rfl)
abbrev cJ12_numberOfTrailingZeros : ByteArray := prog_16_method_48_code
def yJ12_numberOfTrailingZeros : MethodName := ⟨RJ12, "numberOfTrailingZeros", "(I)I"⟩
def dkwJ12_numberOfTrailingZeros_3 : List UInt8 := [5, 124, 59, 27, 26, 4, 124, 96, 172]
abbrev dktJ12_numberOfTrailingZeros_3 : List UInt8 := dkwJ12_numberOfTrailingZeros_3 ++ []
def dkwJ12_numberOfTrailingZeros_2 : List UInt8 := [124, 59, 26, 16, 16, 164, 0, 10, 132, 1, 4, 26, 7, 124, 59, 26, 7, 164, 0, 10, 132, 1, 2, 26]
abbrev dktJ12_numberOfTrailingZeros_2 : List UInt8 := dkwJ12_numberOfTrailingZeros_2 ++ dktJ12_numberOfTrailingZeros_3
def dkwJ12_numberOfTrailingZeros_1 : List UInt8 := [164, 0, 11, 132, 1, 16, 26, 16, 16, 124, 59, 26, 17, 1, 0, 164, 0, 11, 132, 1, 8, 26, 16, 8]
abbrev dktJ12_numberOfTrailingZeros_1 : List UInt8 := dkwJ12_numberOfTrailingZeros_1 ++ dktJ12_numberOfTrailingZeros_2
def dkwJ12_numberOfTrailingZeros_0 : List UInt8 := [26, 2, 130, 26, 4, 100, 126, 59, 26, 157, 0, 8, 26, 16, 32, 126, 172, 4, 60, 26, 19, 1, 8]
abbrev dktJ12_numberOfTrailingZeros_0 : List UInt8 := dkwJ12_numberOfTrailingZeros_0 ++ dktJ12_numberOfTrailingZeros_1
theorem dksJ12_numberOfTrailingZeros_0 : cJ12_numberOfTrailingZeros.data.toList.drop 0 = dktJ12_numberOfTrailingZeros_0 := by decide +kernel
theorem dksJ12_numberOfTrailingZeros_1 : cJ12_numberOfTrailingZeros.data.toList.drop 23 = dktJ12_numberOfTrailingZeros_1 := dk_seg dksJ12_numberOfTrailingZeros_0 23 rfl rfl
theorem dksJ12_numberOfTrailingZeros_2 : cJ12_numberOfTrailingZeros.data.toList.drop 47 = dktJ12_numberOfTrailingZeros_2 := dk_seg dksJ12_numberOfTrailingZeros_1 24 rfl rfl
theorem dksJ12_numberOfTrailingZeros_3 : cJ12_numberOfTrailingZeros.data.toList.drop 71 = dktJ12_numberOfTrailingZeros_3 := dk_seg dksJ12_numberOfTrailingZeros_2 24 rfl rfl
theorem dJ12_numberOfTrailingZeros_0 : decode cJ12_numberOfTrailingZeros 0 = .ok (.iload_n 0, 1) := dk_26 (dk_at dksJ12_numberOfTrailingZeros_0 0 rfl rfl)
theorem dJ12_numberOfTrailingZeros_1 : decode cJ12_numberOfTrailingZeros 1 = .ok (.iconst (-1), 1) := dk_2 (dk_at dksJ12_numberOfTrailingZeros_0 1 rfl rfl)
theorem dJ12_numberOfTrailingZeros_2 : decode cJ12_numberOfTrailingZeros 2 = .ok (.ixor, 1) := dk_130 (dk_at dksJ12_numberOfTrailingZeros_0 2 rfl rfl)
theorem dJ12_numberOfTrailingZeros_3 : decode cJ12_numberOfTrailingZeros 3 = .ok (.iload_n 0, 1) := dk_26 (dk_at dksJ12_numberOfTrailingZeros_0 3 rfl rfl)
theorem dJ12_numberOfTrailingZeros_4 : decode cJ12_numberOfTrailingZeros 4 = .ok (.iconst 1, 1) := dk_4 (dk_at dksJ12_numberOfTrailingZeros_0 4 rfl rfl)
theorem dJ12_numberOfTrailingZeros_5 : decode cJ12_numberOfTrailingZeros 5 = .ok (.isub, 1) := dk_100 (dk_at dksJ12_numberOfTrailingZeros_0 5 rfl rfl)
theorem dJ12_numberOfTrailingZeros_6 : decode cJ12_numberOfTrailingZeros 6 = .ok (.iand, 1) := dk_126 (dk_at dksJ12_numberOfTrailingZeros_0 6 rfl rfl)
theorem dJ12_numberOfTrailingZeros_7 : decode cJ12_numberOfTrailingZeros 7 = .ok (.istore_n 0, 1) := dk_59 (dk_at dksJ12_numberOfTrailingZeros_0 7 rfl rfl)
theorem dJ12_numberOfTrailingZeros_8 : decode cJ12_numberOfTrailingZeros 8 = .ok (.iload_n 0, 1) := dk_26 (dk_at dksJ12_numberOfTrailingZeros_0 8 rfl rfl)
theorem dJ12_numberOfTrailingZeros_9 : decode cJ12_numberOfTrailingZeros 9 = .ok (.ifCond .gt 8, 3) := dk_157 0 8 (dk_at dksJ12_numberOfTrailingZeros_0 9 rfl rfl)
theorem dJ12_numberOfTrailingZeros_12 : decode cJ12_numberOfTrailingZeros 12 = .ok (.iload_n 0, 1) := dk_26 (dk_at dksJ12_numberOfTrailingZeros_0 12 rfl rfl)
theorem dJ12_numberOfTrailingZeros_13 : decode cJ12_numberOfTrailingZeros 13 = .ok (.bipush 32, 2) := dk_16 32 (dk_at dksJ12_numberOfTrailingZeros_0 13 rfl rfl)
theorem dJ12_numberOfTrailingZeros_15 : decode cJ12_numberOfTrailingZeros 15 = .ok (.iand, 1) := dk_126 (dk_at dksJ12_numberOfTrailingZeros_0 15 rfl rfl)
theorem dJ12_numberOfTrailingZeros_16 : decode cJ12_numberOfTrailingZeros 16 = .ok (.ireturn, 1) := dk_172 (dk_at dksJ12_numberOfTrailingZeros_0 16 rfl rfl)
theorem dJ12_numberOfTrailingZeros_17 : decode cJ12_numberOfTrailingZeros 17 = .ok (.iconst 1, 1) := dk_4 (dk_at dksJ12_numberOfTrailingZeros_0 17 rfl rfl)
theorem dJ12_numberOfTrailingZeros_18 : decode cJ12_numberOfTrailingZeros 18 = .ok (.istore_n 1, 1) := dk_60 (dk_at dksJ12_numberOfTrailingZeros_0 18 rfl rfl)
theorem dJ12_numberOfTrailingZeros_19 : decode cJ12_numberOfTrailingZeros 19 = .ok (.iload_n 0, 1) := dk_26 (dk_at dksJ12_numberOfTrailingZeros_0 19 rfl rfl)
theorem dJ12_numberOfTrailingZeros_20 : decode cJ12_numberOfTrailingZeros 20 = .ok (.ldc_w 264, 3) := dk_19 1 8 (dk_at dksJ12_numberOfTrailingZeros_0 20 rfl rfl)
theorem dJ12_numberOfTrailingZeros_23 : decode cJ12_numberOfTrailingZeros 23 = .ok (.if_icmp .le 11, 3) := dk_164 0 11 (dk_at dksJ12_numberOfTrailingZeros_1 0 rfl rfl)
theorem dJ12_numberOfTrailingZeros_26 : decode cJ12_numberOfTrailingZeros 26 = .ok (.iinc 1 16, 3) := dk_132 1 16 (dk_at dksJ12_numberOfTrailingZeros_1 3 rfl rfl)
theorem dJ12_numberOfTrailingZeros_29 : decode cJ12_numberOfTrailingZeros 29 = .ok (.iload_n 0, 1) := dk_26 (dk_at dksJ12_numberOfTrailingZeros_1 6 rfl rfl)
theorem dJ12_numberOfTrailingZeros_30 : decode cJ12_numberOfTrailingZeros 30 = .ok (.bipush 16, 2) := dk_16 16 (dk_at dksJ12_numberOfTrailingZeros_1 7 rfl rfl)
theorem dJ12_numberOfTrailingZeros_32 : decode cJ12_numberOfTrailingZeros 32 = .ok (.iushr, 1) := dk_124 (dk_at dksJ12_numberOfTrailingZeros_1 9 rfl rfl)
theorem dJ12_numberOfTrailingZeros_33 : decode cJ12_numberOfTrailingZeros 33 = .ok (.istore_n 0, 1) := dk_59 (dk_at dksJ12_numberOfTrailingZeros_1 10 rfl rfl)
theorem dJ12_numberOfTrailingZeros_34 : decode cJ12_numberOfTrailingZeros 34 = .ok (.iload_n 0, 1) := dk_26 (dk_at dksJ12_numberOfTrailingZeros_1 11 rfl rfl)
theorem dJ12_numberOfTrailingZeros_35 : decode cJ12_numberOfTrailingZeros 35 = .ok (.sipush 256, 3) := dk_17 1 0 (dk_at dksJ12_numberOfTrailingZeros_1 12 rfl rfl)
theorem dJ12_numberOfTrailingZeros_38 : decode cJ12_numberOfTrailingZeros 38 = .ok (.if_icmp .le 11, 3) := dk_164 0 11 (dk_at dksJ12_numberOfTrailingZeros_1 15 rfl rfl)
theorem dJ12_numberOfTrailingZeros_41 : decode cJ12_numberOfTrailingZeros 41 = .ok (.iinc 1 8, 3) := dk_132 1 8 (dk_at dksJ12_numberOfTrailingZeros_1 18 rfl rfl)
theorem dJ12_numberOfTrailingZeros_44 : decode cJ12_numberOfTrailingZeros 44 = .ok (.iload_n 0, 1) := dk_26 (dk_at dksJ12_numberOfTrailingZeros_1 21 rfl rfl)
theorem dJ12_numberOfTrailingZeros_45 : decode cJ12_numberOfTrailingZeros 45 = .ok (.bipush 8, 2) := dk_16 8 (dk_at dksJ12_numberOfTrailingZeros_1 22 rfl rfl)
theorem dJ12_numberOfTrailingZeros_47 : decode cJ12_numberOfTrailingZeros 47 = .ok (.iushr, 1) := dk_124 (dk_at dksJ12_numberOfTrailingZeros_2 0 rfl rfl)
theorem dJ12_numberOfTrailingZeros_48 : decode cJ12_numberOfTrailingZeros 48 = .ok (.istore_n 0, 1) := dk_59 (dk_at dksJ12_numberOfTrailingZeros_2 1 rfl rfl)
theorem dJ12_numberOfTrailingZeros_49 : decode cJ12_numberOfTrailingZeros 49 = .ok (.iload_n 0, 1) := dk_26 (dk_at dksJ12_numberOfTrailingZeros_2 2 rfl rfl)
theorem dJ12_numberOfTrailingZeros_50 : decode cJ12_numberOfTrailingZeros 50 = .ok (.bipush 16, 2) := dk_16 16 (dk_at dksJ12_numberOfTrailingZeros_2 3 rfl rfl)
theorem dJ12_numberOfTrailingZeros_52 : decode cJ12_numberOfTrailingZeros 52 = .ok (.if_icmp .le 10, 3) := dk_164 0 10 (dk_at dksJ12_numberOfTrailingZeros_2 5 rfl rfl)
theorem dJ12_numberOfTrailingZeros_55 : decode cJ12_numberOfTrailingZeros 55 = .ok (.iinc 1 4, 3) := dk_132 1 4 (dk_at dksJ12_numberOfTrailingZeros_2 8 rfl rfl)
theorem dJ12_numberOfTrailingZeros_58 : decode cJ12_numberOfTrailingZeros 58 = .ok (.iload_n 0, 1) := dk_26 (dk_at dksJ12_numberOfTrailingZeros_2 11 rfl rfl)
theorem dJ12_numberOfTrailingZeros_59 : decode cJ12_numberOfTrailingZeros 59 = .ok (.iconst 4, 1) := dk_7 (dk_at dksJ12_numberOfTrailingZeros_2 12 rfl rfl)
theorem dJ12_numberOfTrailingZeros_60 : decode cJ12_numberOfTrailingZeros 60 = .ok (.iushr, 1) := dk_124 (dk_at dksJ12_numberOfTrailingZeros_2 13 rfl rfl)
theorem dJ12_numberOfTrailingZeros_61 : decode cJ12_numberOfTrailingZeros 61 = .ok (.istore_n 0, 1) := dk_59 (dk_at dksJ12_numberOfTrailingZeros_2 14 rfl rfl)
theorem dJ12_numberOfTrailingZeros_62 : decode cJ12_numberOfTrailingZeros 62 = .ok (.iload_n 0, 1) := dk_26 (dk_at dksJ12_numberOfTrailingZeros_2 15 rfl rfl)
theorem dJ12_numberOfTrailingZeros_63 : decode cJ12_numberOfTrailingZeros 63 = .ok (.iconst 4, 1) := dk_7 (dk_at dksJ12_numberOfTrailingZeros_2 16 rfl rfl)
theorem dJ12_numberOfTrailingZeros_64 : decode cJ12_numberOfTrailingZeros 64 = .ok (.if_icmp .le 10, 3) := dk_164 0 10 (dk_at dksJ12_numberOfTrailingZeros_2 17 rfl rfl)
theorem dJ12_numberOfTrailingZeros_67 : decode cJ12_numberOfTrailingZeros 67 = .ok (.iinc 1 2, 3) := dk_132 1 2 (dk_at dksJ12_numberOfTrailingZeros_2 20 rfl rfl)
theorem dJ12_numberOfTrailingZeros_70 : decode cJ12_numberOfTrailingZeros 70 = .ok (.iload_n 0, 1) := dk_26 (dk_at dksJ12_numberOfTrailingZeros_2 23 rfl rfl)
theorem dJ12_numberOfTrailingZeros_71 : decode cJ12_numberOfTrailingZeros 71 = .ok (.iconst 2, 1) := dk_5 (dk_at dksJ12_numberOfTrailingZeros_3 0 rfl rfl)
theorem dJ12_numberOfTrailingZeros_72 : decode cJ12_numberOfTrailingZeros 72 = .ok (.iushr, 1) := dk_124 (dk_at dksJ12_numberOfTrailingZeros_3 1 rfl rfl)
theorem dJ12_numberOfTrailingZeros_73 : decode cJ12_numberOfTrailingZeros 73 = .ok (.istore_n 0, 1) := dk_59 (dk_at dksJ12_numberOfTrailingZeros_3 2 rfl rfl)
theorem dJ12_numberOfTrailingZeros_74 : decode cJ12_numberOfTrailingZeros 74 = .ok (.iload_n 1, 1) := dk_27 (dk_at dksJ12_numberOfTrailingZeros_3 3 rfl rfl)
theorem dJ12_numberOfTrailingZeros_75 : decode cJ12_numberOfTrailingZeros 75 = .ok (.iload_n 0, 1) := dk_26 (dk_at dksJ12_numberOfTrailingZeros_3 4 rfl rfl)
theorem dJ12_numberOfTrailingZeros_76 : decode cJ12_numberOfTrailingZeros 76 = .ok (.iconst 1, 1) := dk_4 (dk_at dksJ12_numberOfTrailingZeros_3 5 rfl rfl)
theorem dJ12_numberOfTrailingZeros_77 : decode cJ12_numberOfTrailingZeros 77 = .ok (.iushr, 1) := dk_124 (dk_at dksJ12_numberOfTrailingZeros_3 6 rfl rfl)
theorem dJ12_numberOfTrailingZeros_78 : decode cJ12_numberOfTrailingZeros 78 = .ok (.iadd, 1) := dk_96 (dk_at dksJ12_numberOfTrailingZeros_3 7 rfl rfl)
theorem dJ12_numberOfTrailingZeros_79 : decode cJ12_numberOfTrailingZeros 79 = .ok (.ireturn, 1) := dk_172 (dk_at dksJ12_numberOfTrailingZeros_3 8 rfl rfl)
theorem q113 : (Jvm.Cond.initialized "java/lang/Integer") ∈ lw_all := lw_g (lw_at lw_m1 22 rfl) rfl
theorem q759 : (Jvm.Cond.static ({ cls := "java/lang/Integer", name := "bitCount", desc := "(I)I" } : Jvm.MethodName)) ∈ lw_all := lw_g (lw_at lw_m3 188 rfl) rfl
theorem q760 : (Jvm.Cond.code ({ cls := "java/lang/Integer", name := "bitCount", desc := "(I)I" } : Jvm.MethodName) prog_16_method_49_code (1 : Nat) (Option.some Jvm.ClassFile.FieldType.int)) ∈ lw_all := lw_g (lw_at lw_m3 189 rfl) rfl
theorem q761 : (Jvm.Cond.constant "java/lang/Integer" (265 : Nat) (1431655765 : Int32)) ∈ lw_all := lw_g (lw_at lw_m3 190 rfl) rfl
theorem q762 : (Jvm.Cond.constant "java/lang/Integer" (266 : Nat) (858993459 : Int32)) ∈ lw_all := lw_g (lw_at lw_m3 191 rfl) rfl
theorem q763 : (Jvm.Cond.constant "java/lang/Integer" (267 : Nat) (252645135 : Int32)) ∈ lw_all := lw_g (lw_at lw_m3 192 rfl) rfl
theorem q840 : (Jvm.Cond.static ({ cls := "java/lang/Integer", name := "numberOfTrailingZeros", desc := "(I)I" } : Jvm.MethodName)) ∈ lw_all := lw_g (lw_at lw_m4 29 rfl) rfl
theorem q841 : (Jvm.Cond.code ({ cls := "java/lang/Integer", name := "numberOfTrailingZeros", desc := "(I)I" } : Jvm.MethodName) prog_16_method_48_code (2 : Nat) (Option.some Jvm.ClassFile.FieldType.int)) ∈ lw_all := lw_g (lw_at lw_m4 30 rfl) rfl
theorem q842 : (Jvm.Cond.constant "java/lang/Integer" (264 : Nat) (65536 : Int32)) ∈ lw_all := lw_g (lw_at lw_m4 31 rfl) rfl

/-! java/lang/Object -/
set_option maxRecDepth 100000
def RJ13 : String := "java/lang/Object"
abbrev cJ13_init : ByteArray := object_method_1_code
def yJ13_init : MethodName := ⟨RJ13, "<init>", "()V"⟩
theorem dJ13_init_0 : decode cJ13_init 0 = .ok (.return_, 1) := by decide +kernel
theorem q124 : (Jvm.Cond.instanceMethod ({ cls := "java/lang/Object", name := "<init>", desc := "()V" } : Jvm.MethodName)) ∈ lw_all := lw_g (lw_at lw_m1 33 rfl) rfl
theorem q125 : (Jvm.Cond.code ({ cls := "java/lang/Object", name := "<init>", desc := "()V" } : Jvm.MethodName) object_method_1_code (1 : Nat) (Option.none : Option Jvm.ClassFile.FieldType)) ∈ lw_all := lw_g (lw_at lw_m1 34 rfl) rfl

/-! NeitherBare$Clause -/
set_option maxRecDepth 100000
def RX2 : String := "NeitherBare$Clause"
def TX2 : u_T := fun k => match k with
  | 0 => ("NeitherBare$Clause", "trait", "I", true)
  | _ => ("NeitherBare$Clause", "this$0", "LNeitherBare;", true)
def tyX2 : Nat → FieldType := fun k => match k with
  | 0 => .int
  | _ => .object "NeitherBare"
abbrev wsX20 : List Cond := u_ws RX2 TX2 2
theorem nmX2 : ∀ a, a < 2 → ∀ b, b < 2 → a ≠ b → (TX2 a).2.1 ≠ (TX2 b).2.1 := by decide +kernel
theorem tyX2_ok : ∀ k, k < 2 → parseFieldDescriptor (TX2 k).2.2.1 = some (tyX2 k) := by decide +kernel
abbrev cX2_init : ByteArray := prog_4_method_1_code
def yX2_init : MethodName := ⟨RX2, "<init>", "(LNeitherBare;I)V"⟩
def dkwX2_init_0 : List UInt8 := [42, 43, 181, 0, 1, 42, 183, 0, 7, 42, 28, 181, 0, 13, 177]
abbrev dktX2_init_0 : List UInt8 := dkwX2_init_0 ++ []
theorem dksX2_init_0 : cX2_init.data.toList.drop 0 = dktX2_init_0 := by decide +kernel
theorem dX2_init_0 : decode cX2_init 0 = .ok (.aload_n 0, 1) := dk_42 (dk_at dksX2_init_0 0 rfl rfl)
theorem dX2_init_1 : decode cX2_init 1 = .ok (.aload_n 1, 1) := dk_43 (dk_at dksX2_init_0 1 rfl rfl)
theorem dX2_init_2 : decode cX2_init 2 = .ok (.putfield 1, 3) := dk_181 0 1 (dk_at dksX2_init_0 2 rfl rfl)
theorem dX2_init_5 : decode cX2_init 5 = .ok (.aload_n 0, 1) := dk_42 (dk_at dksX2_init_0 5 rfl rfl)
theorem dX2_init_6 : decode cX2_init 6 = .ok (.invokespecial 7, 3) := dk_183 0 7 (dk_at dksX2_init_0 6 rfl rfl)
theorem dX2_init_9 : decode cX2_init 9 = .ok (.aload_n 0, 1) := dk_42 (dk_at dksX2_init_0 9 rfl rfl)
theorem dX2_init_10 : decode cX2_init 10 = .ok (.iload_n 2, 1) := dk_28 (dk_at dksX2_init_0 10 rfl rfl)
theorem dX2_init_11 : decode cX2_init 11 = .ok (.putfield 13, 3) := dk_181 0 13 (dk_at dksX2_init_0 11 rfl rfl)
theorem dX2_init_14 : decode cX2_init 14 = .ok (.return_, 1) := dk_177 (dk_at dksX2_init_0 14 rfl rfl)
abbrev cX2_kind : ByteArray := prog_4_method_2_code
def yX2_kind : MethodName := ⟨RX2, "kind", "()I"⟩
theorem dX2_kind_0 : decode cX2_kind 0 = .ok (.iconst 0, 1) := by decide +kernel
theorem dX2_kind_1 : decode cX2_kind 1 = .ok (.ireturn, 1) := by decide +kernel
abbrev cX2_holds : ByteArray := prog_4_method_3_code
def yX2_holds : MethodName := ⟨RX2, "holds", "(I)Z"⟩
def dkwX2_holds_0 : List UInt8 := [42, 180, 0, 1, 27, 42, 180, 0, 13, 182, 0, 17, 172]
abbrev dktX2_holds_0 : List UInt8 := dkwX2_holds_0 ++ []
theorem dksX2_holds_0 : cX2_holds.data.toList.drop 0 = dktX2_holds_0 := by decide +kernel
theorem dX2_holds_0 : decode cX2_holds 0 = .ok (.aload_n 0, 1) := dk_42 (dk_at dksX2_holds_0 0 rfl rfl)
theorem dX2_holds_1 : decode cX2_holds 1 = .ok (.getfield 1, 3) := dk_180 0 1 (dk_at dksX2_holds_0 1 rfl rfl)
theorem dX2_holds_4 : decode cX2_holds 4 = .ok (.iload_n 1, 1) := dk_27 (dk_at dksX2_holds_0 4 rfl rfl)
theorem dX2_holds_5 : decode cX2_holds 5 = .ok (.aload_n 0, 1) := dk_42 (dk_at dksX2_holds_0 5 rfl rfl)
theorem dX2_holds_6 : decode cX2_holds 6 = .ok (.getfield 13, 3) := dk_180 0 13 (dk_at dksX2_holds_0 6 rfl rfl)
theorem dX2_holds_9 : decode cX2_holds 9 = .ok (.invokevirtual 17, 3) := dk_182 0 17 (dk_at dksX2_holds_0 9 rfl rfl)
theorem dX2_holds_12 : decode cX2_holds 12 = .ok (.ireturn, 1) := dk_172 (dk_at dksX2_holds_0 12 rfl rfl)
theorem q104 : (Jvm.Cond.initialized "NeitherBare$Clause") ∈ lw_all := lw_g (lw_at lw_m1 13 rfl) rfl
theorem q448 : (Jvm.Cond.instantiable "NeitherBare$Clause" (2 : Nat)) ∈ lw_all := lw_g (lw_at lw_m2 117 rfl) rfl
theorem q450 : (Jvm.Cond.instanceMethod ({ cls := "NeitherBare$Clause", name := "<init>", desc := "(LNeitherBare;I)V" } : Jvm.MethodName)) ∈ lw_all := lw_g (lw_at lw_m2 119 rfl) rfl
theorem q451 : (Jvm.Cond.code ({ cls := "NeitherBare$Clause", name := "<init>", desc := "(LNeitherBare;I)V" } : Jvm.MethodName) prog_4_method_1_code (3 : Nat) (Option.none : Option Jvm.ClassFile.FieldType)) ∈ lw_all := lw_g (lw_at lw_m2 120 rfl) rfl
theorem q452 : (Jvm.Cond.methodLink "NeitherBare$Clause" (7 : Nat) ({ cls := "java/lang/Object", name := "<init>", desc := "()V" } : Jvm.MethodName)) ∈ lw_all := lw_g (lw_at lw_m2 121 rfl) rfl
theorem q453 : (Jvm.Cond.fieldLink "NeitherBare$Clause" (13 : Nat) "NeitherBare$Clause" "trait" "I") ∈ lw_all := lw_g (lw_at lw_m2 122 rfl) rfl
theorem q465 : (Jvm.Cond.fieldLink "NeitherBare$Clause" (1 : Nat) "NeitherBare$Clause" "this$0" "LNeitherBare;") ∈ lw_all := lw_g (lw_at lw_m2 134 rfl) rfl
theorem q466 : (Jvm.Cond.laysFinal "NeitherBare$Clause" "NeitherBare$Clause" "trait" "I") ∈ lw_all := lw_g (lw_at lw_m2 135 rfl) rfl
theorem q467 : (Jvm.Cond.soleField "NeitherBare$Clause" "trait") ∈ lw_all := lw_g (lw_at lw_m2 136 rfl) rfl
theorem q468 : (Jvm.Cond.laysFinal "NeitherBare$Clause" "NeitherBare$Clause" "this$0" "LNeitherBare;") ∈ lw_all := lw_g (lw_at lw_m2 137 rfl) rfl
theorem q469 : (Jvm.Cond.soleField "NeitherBare$Clause" "this$0") ∈ lw_all := lw_g (lw_at lw_m2 138 rfl) rfl
theorem q470 : (Jvm.Cond.superclass "NeitherBare$Clause" "java/lang/Object") ∈ lw_all := lw_g (lw_at lw_m2 139 rfl) rfl
theorem q560 : (Jvm.Cond.instanceMethod ({ cls := "NeitherBare$Clause", name := "kind", desc := "()I" } : Jvm.MethodName)) ∈ lw_all := lw_g (lw_at lw_m2 229 rfl) rfl
theorem q561 : (Jvm.Cond.selects "NeitherBare$Clause" ({ cls := "NeitherBare$Clause", name := "kind", desc := "()I" } : Jvm.MethodName) ({ cls := "NeitherBare$Clause", name := "kind", desc := "()I" } : Jvm.MethodName)) ∈ lw_all := lw_g (lw_at lw_m2 230 rfl) rfl
theorem q562 : (Jvm.Cond.sameMethod "NeitherBare$Clause" "NeitherBare$Clause" "kind" "()I") ∈ lw_all := lw_g (lw_at lw_m2 231 rfl) rfl
theorem q583 : (Jvm.Cond.code ({ cls := "NeitherBare$Clause", name := "kind", desc := "()I" } : Jvm.MethodName) prog_4_method_2_code (1 : Nat) (Option.some Jvm.ClassFile.FieldType.int)) ∈ lw_all := lw_g (lw_at lw_m3 12 rfl) rfl
theorem q597 : (Jvm.Cond.castable "NeitherBare$Clause" "NeitherBare$Says") ∈ lw_tbl := lw_at lw_m3 26 rfl
theorem q598 : (Jvm.Cond.unhidden "NeitherBare$Clause" "other" "()I") ∈ lw_tbl := lw_at lw_m3 27 rfl
theorem q633 : (Jvm.Cond.instanceMethod ({ cls := "NeitherBare$Clause", name := "holds", desc := "(I)Z" } : Jvm.MethodName)) ∈ lw_all := lw_g (lw_at lw_m3 62 rfl) rfl
theorem q634 : (Jvm.Cond.code ({ cls := "NeitherBare$Clause", name := "holds", desc := "(I)Z" } : Jvm.MethodName) prog_4_method_3_code (2 : Nat) (Option.some Jvm.ClassFile.FieldType.boolean)) ∈ lw_all := lw_g (lw_at lw_m3 63 rfl) rfl
theorem q635 : (Jvm.Cond.methodLinkNest "NeitherBare$Clause" (17 : Nat) ({ cls := "NeitherBare", name := "isMuch", desc := "(II)Z" } : Jvm.MethodName) "NeitherBare") ∈ lw_tbl := lw_at lw_m3 64 rfl
theorem q657 : (Jvm.Cond.selects "NeitherBare$Clause" ({ cls := "NeitherBare$Says", name := "holds", desc := "(I)Z" } : Jvm.MethodName) ({ cls := "NeitherBare$Clause", name := "holds", desc := "(I)Z" } : Jvm.MethodName)) ∈ lw_all := lw_g (lw_at lw_m3 86 rfl) rfl
theorem q658 : (Jvm.Cond.unhidden "NeitherBare$Clause" "holds" "(I)Z") ∈ lw_tbl := lw_at lw_m3 87 rfl
theorem q659 : (Jvm.Cond.publicMethod ({ cls := "NeitherBare$Clause", name := "holds", desc := "(I)Z" } : Jvm.MethodName)) ∈ lw_tbl := lw_at lw_m3 88 rfl
theorem q1541 : (Jvm.Cond.sameMethod "NeitherBare$Clause" "NeitherBare$Clause" "holds" "(I)Z") ∈ lw_all := lw_g (lw_at lw_m7 10 rfl) rfl
theorem in_X2 : ∀ w ∈ wsX20, w ∈ lw_all := lw_in wsX20 [466, 468] (by decide +kernel) (by decide +kernel)

/-! NeitherBare$Neither -/
set_option maxRecDepth 100000
def RX3 : String := "NeitherBare$Neither"
def TX3 : u_T := fun k => match k with
  | 0 => ("NeitherBare$Clause", "trait", "I", true)
  | 1 => ("NeitherBare$Clause", "this$0", "LNeitherBare;", true)
  | _ => ("NeitherBare$Neither", "this$0", "LNeitherBare;", true)
def tyX3 : Nat → FieldType := fun k => match k with
  | 0 => .int
  | 1 => .object "NeitherBare"
  | _ => .object "NeitherBare"
abbrev wsX30 : List Cond := u_ws RX3 TX3 3
-- two fields of one name: no nmX3
theorem tyX3_ok : ∀ k, k < 3 → parseFieldDescriptor (TX3 k).2.2.1 = some (tyX3 k) := by decide +kernel
abbrev cX3_init : ByteArray := prog_6_method_1_code
def yX3_init : MethodName := ⟨RX3, "<init>", "(LNeitherBare;I)V"⟩
def dkwX3_init_0 : List UInt8 := [42, 43, 181, 0, 3, 42, 43, 28, 183, 0, 9, 177]
abbrev dktX3_init_0 : List UInt8 := dkwX3_init_0 ++ []
theorem dksX3_init_0 : cX3_init.data.toList.drop 0 = dktX3_init_0 := by decide +kernel
theorem dX3_init_0 : decode cX3_init 0 = .ok (.aload_n 0, 1) := dk_42 (dk_at dksX3_init_0 0 rfl rfl)
theorem dX3_init_1 : decode cX3_init 1 = .ok (.aload_n 1, 1) := dk_43 (dk_at dksX3_init_0 1 rfl rfl)
theorem dX3_init_2 : decode cX3_init 2 = .ok (.putfield 3, 3) := dk_181 0 3 (dk_at dksX3_init_0 2 rfl rfl)
theorem dX3_init_5 : decode cX3_init 5 = .ok (.aload_n 0, 1) := dk_42 (dk_at dksX3_init_0 5 rfl rfl)
theorem dX3_init_6 : decode cX3_init 6 = .ok (.aload_n 1, 1) := dk_43 (dk_at dksX3_init_0 6 rfl rfl)
theorem dX3_init_7 : decode cX3_init 7 = .ok (.iload_n 2, 1) := dk_28 (dk_at dksX3_init_0 7 rfl rfl)
theorem dX3_init_8 : decode cX3_init 8 = .ok (.invokespecial 9, 3) := dk_183 0 9 (dk_at dksX3_init_0 8 rfl rfl)
theorem dX3_init_11 : decode cX3_init 11 = .ok (.return_, 1) := dk_177 (dk_at dksX3_init_0 11 rfl rfl)
abbrev cX3_kind : ByteArray := prog_6_method_2_code
def yX3_kind : MethodName := ⟨RX3, "kind", "()I"⟩
def dkwX3_kind_0 : List UInt8 := [42, 183, 0, 15, 4, 96, 172]
abbrev dktX3_kind_0 : List UInt8 := dkwX3_kind_0 ++ []
theorem dksX3_kind_0 : cX3_kind.data.toList.drop 0 = dktX3_kind_0 := by decide +kernel
theorem dX3_kind_0 : decode cX3_kind 0 = .ok (.aload_n 0, 1) := dk_42 (dk_at dksX3_kind_0 0 rfl rfl)
theorem dX3_kind_1 : decode cX3_kind 1 = .ok (.invokespecial 15, 3) := dk_183 0 15 (dk_at dksX3_kind_0 1 rfl rfl)
theorem dX3_kind_4 : decode cX3_kind 4 = .ok (.iconst 1, 1) := dk_4 (dk_at dksX3_kind_0 4 rfl rfl)
theorem dX3_kind_5 : decode cX3_kind 5 = .ok (.iadd, 1) := dk_96 (dk_at dksX3_kind_0 5 rfl rfl)
theorem dX3_kind_6 : decode cX3_kind 6 = .ok (.ireturn, 1) := dk_172 (dk_at dksX3_kind_0 6 rfl rfl)
abbrev cX3_holds : ByteArray := prog_6_method_3_code
def yX3_holds : MethodName := ⟨RX3, "holds", "(I)Z"⟩
def dkwX3_holds_1 : List UInt8 := [167, 0, 4, 3, 172]
abbrev dktX3_holds_1 : List UInt8 := dkwX3_holds_1 ++ []
def dkwX3_holds_0 : List UInt8 := [42, 27, 183, 0, 19, 154, 0, 22, 42, 180, 0, 3, 27, 42, 180, 0, 23, 182, 0, 27, 154, 0, 7, 4]
abbrev dktX3_holds_0 : List UInt8 := dkwX3_holds_0 ++ dktX3_holds_1
theorem dksX3_holds_0 : cX3_holds.data.toList.drop 0 = dktX3_holds_0 := by decide +kernel
theorem dksX3_holds_1 : cX3_holds.data.toList.drop 24 = dktX3_holds_1 := dk_seg dksX3_holds_0 24 rfl rfl
theorem dX3_holds_0 : decode cX3_holds 0 = .ok (.aload_n 0, 1) := dk_42 (dk_at dksX3_holds_0 0 rfl rfl)
theorem dX3_holds_1 : decode cX3_holds 1 = .ok (.iload_n 1, 1) := dk_27 (dk_at dksX3_holds_0 1 rfl rfl)
theorem dX3_holds_2 : decode cX3_holds 2 = .ok (.invokespecial 19, 3) := dk_183 0 19 (dk_at dksX3_holds_0 2 rfl rfl)
theorem dX3_holds_5 : decode cX3_holds 5 = .ok (.ifCond .ne 22, 3) := dk_154 0 22 (dk_at dksX3_holds_0 5 rfl rfl)
theorem dX3_holds_8 : decode cX3_holds 8 = .ok (.aload_n 0, 1) := dk_42 (dk_at dksX3_holds_0 8 rfl rfl)
theorem dX3_holds_9 : decode cX3_holds 9 = .ok (.getfield 3, 3) := dk_180 0 3 (dk_at dksX3_holds_0 9 rfl rfl)
theorem dX3_holds_12 : decode cX3_holds 12 = .ok (.iload_n 1, 1) := dk_27 (dk_at dksX3_holds_0 12 rfl rfl)
theorem dX3_holds_13 : decode cX3_holds 13 = .ok (.aload_n 0, 1) := dk_42 (dk_at dksX3_holds_0 13 rfl rfl)
theorem dX3_holds_14 : decode cX3_holds 14 = .ok (.getfield 23, 3) := dk_180 0 23 (dk_at dksX3_holds_0 14 rfl rfl)
theorem dX3_holds_17 : decode cX3_holds 17 = .ok (.invokevirtual 27, 3) := dk_182 0 27 (dk_at dksX3_holds_0 17 rfl rfl)
theorem dX3_holds_20 : decode cX3_holds 20 = .ok (.ifCond .ne 7, 3) := dk_154 0 7 (dk_at dksX3_holds_0 20 rfl rfl)
theorem dX3_holds_23 : decode cX3_holds 23 = .ok (.iconst 1, 1) := dk_4 (dk_at dksX3_holds_0 23 rfl rfl)
theorem dX3_holds_24 : decode cX3_holds 24 = .ok (.goto 4, 3) := dk_167 0 4 (dk_at dksX3_holds_1 0 rfl rfl)
theorem dX3_holds_27 : decode cX3_holds 27 = .ok (.iconst 0, 1) := dk_3 (dk_at dksX3_holds_1 3 rfl rfl)
theorem dX3_holds_28 : decode cX3_holds 28 = .ok (.ireturn, 1) := dk_172 (dk_at dksX3_holds_1 4 rfl rfl)
abbrev cX3_mark : ByteArray := prog_6_method_4_code
def yX3_mark : MethodName := ⟨RX3, "mark", "()I"⟩
def dkwX3_mark_1 : List UInt8 := [180, 0, 23, 96, 46, 100, 4, 100, 172]
abbrev dktX3_mark_1 : List UInt8 := dkwX3_mark_1 ++ []
def dkwX3_mark_0 : List UInt8 := [42, 180, 0, 3, 180, 0, 31, 8, 42, 180, 0, 23, 96, 46, 42, 180, 0, 3, 180, 0, 31, 4, 42]
abbrev dktX3_mark_0 : List UInt8 := dkwX3_mark_0 ++ dktX3_mark_1
theorem dksX3_mark_0 : cX3_mark.data.toList.drop 0 = dktX3_mark_0 := by decide +kernel
theorem dksX3_mark_1 : cX3_mark.data.toList.drop 23 = dktX3_mark_1 := dk_seg dksX3_mark_0 23 rfl rfl
theorem dX3_mark_0 : decode cX3_mark 0 = .ok (.aload_n 0, 1) := dk_42 (dk_at dksX3_mark_0 0 rfl rfl)
theorem dX3_mark_1 : decode cX3_mark 1 = .ok (.getfield 3, 3) := dk_180 0 3 (dk_at dksX3_mark_0 1 rfl rfl)
theorem dX3_mark_4 : decode cX3_mark 4 = .ok (.getfield 31, 3) := dk_180 0 31 (dk_at dksX3_mark_0 4 rfl rfl)
theorem dX3_mark_7 : decode cX3_mark 7 = .ok (.iconst 5, 1) := dk_8 (dk_at dksX3_mark_0 7 rfl rfl)
theorem dX3_mark_8 : decode cX3_mark 8 = .ok (.aload_n 0, 1) := dk_42 (dk_at dksX3_mark_0 8 rfl rfl)
theorem dX3_mark_9 : decode cX3_mark 9 = .ok (.getfield 23, 3) := dk_180 0 23 (dk_at dksX3_mark_0 9 rfl rfl)
theorem dX3_mark_12 : decode cX3_mark 12 = .ok (.iadd, 1) := dk_96 (dk_at dksX3_mark_0 12 rfl rfl)
theorem dX3_mark_13 : decode cX3_mark 13 = .ok (.iaload, 1) := dk_46 (dk_at dksX3_mark_0 13 rfl rfl)
theorem dX3_mark_14 : decode cX3_mark 14 = .ok (.aload_n 0, 1) := dk_42 (dk_at dksX3_mark_0 14 rfl rfl)
theorem dX3_mark_15 : decode cX3_mark 15 = .ok (.getfield 3, 3) := dk_180 0 3 (dk_at dksX3_mark_0 15 rfl rfl)
theorem dX3_mark_18 : decode cX3_mark 18 = .ok (.getfield 31, 3) := dk_180 0 31 (dk_at dksX3_mark_0 18 rfl rfl)
theorem dX3_mark_21 : decode cX3_mark 21 = .ok (.iconst 1, 1) := dk_4 (dk_at dksX3_mark_0 21 rfl rfl)
theorem dX3_mark_22 : decode cX3_mark 22 = .ok (.aload_n 0, 1) := dk_42 (dk_at dksX3_mark_0 22 rfl rfl)
theorem dX3_mark_23 : decode cX3_mark 23 = .ok (.getfield 23, 3) := dk_180 0 23 (dk_at dksX3_mark_1 0 rfl rfl)
theorem dX3_mark_26 : decode cX3_mark 26 = .ok (.iadd, 1) := dk_96 (dk_at dksX3_mark_1 3 rfl rfl)
theorem dX3_mark_27 : decode cX3_mark 27 = .ok (.iaload, 1) := dk_46 (dk_at dksX3_mark_1 4 rfl rfl)
theorem dX3_mark_28 : decode cX3_mark 28 = .ok (.isub, 1) := dk_100 (dk_at dksX3_mark_1 5 rfl rfl)
theorem dX3_mark_29 : decode cX3_mark 29 = .ok (.iconst 1, 1) := dk_4 (dk_at dksX3_mark_1 6 rfl rfl)
theorem dX3_mark_30 : decode cX3_mark 30 = .ok (.isub, 1) := dk_100 (dk_at dksX3_mark_1 7 rfl rfl)
theorem dX3_mark_31 : decode cX3_mark 31 = .ok (.ireturn, 1) := dk_172 (dk_at dksX3_mark_1 8 rfl rfl)
theorem q105 : (Jvm.Cond.initialized "NeitherBare$Neither") ∈ lw_all := lw_g (lw_at lw_m1 14 rfl) rfl
theorem q145 : (Jvm.Cond.fieldLinkNest "NeitherBare$Neither" (31 : Nat) "NeitherBare" "now" "[I" "NeitherBare") ∈ lw_tbl := lw_at lw_m1 54 rfl
theorem q458 : (Jvm.Cond.fieldLink "NeitherBare$Neither" (23 : Nat) "NeitherBare$Neither" "trait" "I") ∈ lw_all := lw_g (lw_at lw_m2 127 rfl) rfl
theorem q459 : (Jvm.Cond.sameField "NeitherBare$Neither" "NeitherBare$Clause" "trait" "I") ∈ lw_all := lw_g (lw_at lw_m2 128 rfl) rfl
theorem q472 : (Jvm.Cond.instantiable "NeitherBare$Neither" (3 : Nat)) ∈ lw_all := lw_g (lw_at lw_m2 141 rfl) rfl
theorem q474 : (Jvm.Cond.instanceMethod ({ cls := "NeitherBare$Neither", name := "<init>", desc := "(LNeitherBare;I)V" } : Jvm.MethodName)) ∈ lw_all := lw_g (lw_at lw_m2 143 rfl) rfl
theorem q475 : (Jvm.Cond.code ({ cls := "NeitherBare$Neither", name := "<init>", desc := "(LNeitherBare;I)V" } : Jvm.MethodName) prog_6_method_1_code (3 : Nat) (Option.none : Option Jvm.ClassFile.FieldType)) ∈ lw_all := lw_g (lw_at lw_m2 144 rfl) rfl
theorem q476 : (Jvm.Cond.methodLink "NeitherBare$Neither" (9 : Nat) ({ cls := "NeitherBare$Clause", name := "<init>", desc := "(LNeitherBare;I)V" } : Jvm.MethodName)) ∈ lw_all := lw_g (lw_at lw_m2 145 rfl) rfl
theorem q477 : (Jvm.Cond.fieldLink "NeitherBare$Neither" (3 : Nat) "NeitherBare$Neither" "this$0" "LNeitherBare;") ∈ lw_all := lw_g (lw_at lw_m2 146 rfl) rfl
theorem q478 : (Jvm.Cond.laysFinal "NeitherBare$Neither" "NeitherBare$Neither" "this$0" "LNeitherBare;") ∈ lw_all := lw_g (lw_at lw_m2 147 rfl) rfl
theorem q479 : (Jvm.Cond.soleField "NeitherBare$Neither" "this$0") ∈ lw_all := lw_g (lw_at lw_m2 148 rfl) rfl
theorem q480 : (Jvm.Cond.laysFinal "NeitherBare$Neither" "NeitherBare$Clause" "trait" "I") ∈ lw_all := lw_g (lw_at lw_m2 149 rfl) rfl
theorem q481 : (Jvm.Cond.laysFinal "NeitherBare$Neither" "NeitherBare$Clause" "this$0" "LNeitherBare;") ∈ lw_all := lw_g (lw_at lw_m2 150 rfl) rfl
theorem q482 : (Jvm.Cond.superclass "NeitherBare$Neither" "NeitherBare$Clause") ∈ lw_all := lw_g (lw_at lw_m2 151 rfl) rfl
theorem q575 : (Jvm.Cond.instanceMethod ({ cls := "NeitherBare$Neither", name := "kind", desc := "()I" } : Jvm.MethodName)) ∈ lw_all := lw_g (lw_at lw_m3 4 rfl) rfl
theorem q576 : (Jvm.Cond.code ({ cls := "NeitherBare$Neither", name := "kind", desc := "()I" } : Jvm.MethodName) prog_6_method_2_code (1 : Nat) (Option.some Jvm.ClassFile.FieldType.int)) ∈ lw_all := lw_g (lw_at lw_m3 5 rfl) rfl
theorem q577 : (Jvm.Cond.methodLink "NeitherBare$Neither" (15 : Nat) ({ cls := "NeitherBare$Clause", name := "kind", desc := "()I" } : Jvm.MethodName)) ∈ lw_all := lw_g (lw_at lw_m3 6 rfl) rfl
theorem q578 : (Jvm.Cond.selects "NeitherBare$Neither" ({ cls := "NeitherBare$Clause", name := "kind", desc := "()I" } : Jvm.MethodName) ({ cls := "NeitherBare$Neither", name := "kind", desc := "()I" } : Jvm.MethodName)) ∈ lw_all := lw_g (lw_at lw_m3 7 rfl) rfl
theorem q604 : (Jvm.Cond.castable "NeitherBare$Neither" "NeitherBare$Says") ∈ lw_tbl := lw_at lw_m3 33 rfl
theorem q605 : (Jvm.Cond.unhidden "NeitherBare$Neither" "other" "()I") ∈ lw_tbl := lw_at lw_m3 34 rfl
theorem q666 : (Jvm.Cond.instanceMethod ({ cls := "NeitherBare$Neither", name := "holds", desc := "(I)Z" } : Jvm.MethodName)) ∈ lw_all := lw_g (lw_at lw_m3 95 rfl) rfl
theorem q667 : (Jvm.Cond.code ({ cls := "NeitherBare$Neither", name := "holds", desc := "(I)Z" } : Jvm.MethodName) prog_6_method_3_code (2 : Nat) (Option.some Jvm.ClassFile.FieldType.boolean)) ∈ lw_all := lw_g (lw_at lw_m3 96 rfl) rfl
theorem q668 : (Jvm.Cond.methodLink "NeitherBare$Neither" (19 : Nat) ({ cls := "NeitherBare$Clause", name := "holds", desc := "(I)Z" } : Jvm.MethodName)) ∈ lw_all := lw_g (lw_at lw_m3 97 rfl) rfl
theorem q669 : (Jvm.Cond.methodLinkNest "NeitherBare$Neither" (27 : Nat) ({ cls := "NeitherBare", name := "isLittle", desc := "(II)Z" } : Jvm.MethodName) "NeitherBare") ∈ lw_tbl := lw_at lw_m3 98 rfl
theorem q675 : (Jvm.Cond.selects "NeitherBare$Neither" ({ cls := "NeitherBare$Says", name := "holds", desc := "(I)Z" } : Jvm.MethodName) ({ cls := "NeitherBare$Neither", name := "holds", desc := "(I)Z" } : Jvm.MethodName)) ∈ lw_all := lw_g (lw_at lw_m3 104 rfl) rfl
theorem q676 : (Jvm.Cond.unhidden "NeitherBare$Neither" "holds" "(I)Z") ∈ lw_tbl := lw_at lw_m3 105 rfl
theorem q677 : (Jvm.Cond.publicMethod ({ cls := "NeitherBare$Neither", name := "holds", desc := "(I)Z" } : Jvm.MethodName)) ∈ lw_tbl := lw_at lw_m3 106 rfl
theorem q713 : (Jvm.Cond.instanceMethod ({ cls := "NeitherBare$Neither", name := "mark", desc := "()I" } : Jvm.MethodName)) ∈ lw_all := lw_g (lw_at lw_m3 142 rfl) rfl
theorem q714 : (Jvm.Cond.code ({ cls := "NeitherBare$Neither", name := "mark", desc := "()I" } : Jvm.MethodName) prog_6_method_4_code (1 : Nat) (Option.some Jvm.ClassFile.FieldType.int)) ∈ lw_all := lw_g (lw_at lw_m3 143 rfl) rfl
theorem q1540 : (Jvm.Cond.sameMethod "NeitherBare$Neither" "NeitherBare$Neither" "kind" "()I") ∈ lw_all := lw_g (lw_at lw_m7 9 rfl) rfl
theorem q1542 : (Jvm.Cond.sameMethod "NeitherBare$Neither" "NeitherBare$Neither" "holds" "(I)Z") ∈ lw_all := lw_g (lw_at lw_m7 11 rfl) rfl
theorem q1543 : (Jvm.Cond.sameMethod "NeitherBare$Neither" "NeitherBare$Neither" "mark" "()I") ∈ lw_all := lw_g (lw_at lw_m7 12 rfl) rfl
theorem q1545 : (Jvm.Cond.selects "NeitherBare$Neither" ({ cls := "NeitherBare$Neither", name := "mark", desc := "()I" } : Jvm.MethodName) ({ cls := "NeitherBare$Neither", name := "mark", desc := "()I" } : Jvm.MethodName)) ∈ lw_all := lw_g (lw_at lw_m7 14 rfl) rfl
theorem q1554 : (Jvm.Cond.castable "NeitherBare$Neither" "NeitherBare$Clause") ∈ lw_tbl := lw_at lw_m7 23 rfl
theorem in_X3 : ∀ w ∈ wsX30, w ∈ lw_all := lw_in wsX30 [480, 481, 478] (by decide +kernel) (by decide +kernel)

/-! NeitherBare$Both -/
set_option maxRecDepth 100000
def RX4 : String := "NeitherBare$Both"
def TX4 : u_T := fun k => match k with
  | 0 => ("NeitherBare$Clause", "trait", "I", true)
  | 1 => ("NeitherBare$Clause", "this$0", "LNeitherBare;", true)
  | 2 => ("NeitherBare$Both", "second", "I", true)
  | _ => ("NeitherBare$Both", "this$0", "LNeitherBare;", true)
def tyX4 : Nat → FieldType := fun k => match k with
  | 0 => .int
  | 1 => .object "NeitherBare"
  | 2 => .int
  | _ => .object "NeitherBare"
abbrev wsX40 : List Cond := u_ws RX4 TX4 4
-- two fields of one name: no nmX4
theorem tyX4_ok : ∀ k, k < 4 → parseFieldDescriptor (TX4 k).2.2.1 = some (tyX4 k) := by decide +kernel
abbrev cX4_init : ByteArray := prog_2_method_1_code
def yX4_init : MethodName := ⟨RX4, "<init>", "(LNeitherBare;II)V"⟩
def dkwX4_init_0 : List UInt8 := [42, 43, 181, 0, 3, 42, 43, 28, 183, 0, 9, 42, 29, 181, 0, 15, 177]
abbrev dktX4_init_0 : List UInt8 := dkwX4_init_0 ++ []
theorem dksX4_init_0 : cX4_init.data.toList.drop 0 = dktX4_init_0 := by decide +kernel
theorem dX4_init_0 : decode cX4_init 0 = .ok (.aload_n 0, 1) := dk_42 (dk_at dksX4_init_0 0 rfl rfl)
theorem dX4_init_1 : decode cX4_init 1 = .ok (.aload_n 1, 1) := dk_43 (dk_at dksX4_init_0 1 rfl rfl)
theorem dX4_init_2 : decode cX4_init 2 = .ok (.putfield 3, 3) := dk_181 0 3 (dk_at dksX4_init_0 2 rfl rfl)
theorem dX4_init_5 : decode cX4_init 5 = .ok (.aload_n 0, 1) := dk_42 (dk_at dksX4_init_0 5 rfl rfl)
theorem dX4_init_6 : decode cX4_init 6 = .ok (.aload_n 1, 1) := dk_43 (dk_at dksX4_init_0 6 rfl rfl)
theorem dX4_init_7 : decode cX4_init 7 = .ok (.iload_n 2, 1) := dk_28 (dk_at dksX4_init_0 7 rfl rfl)
theorem dX4_init_8 : decode cX4_init 8 = .ok (.invokespecial 9, 3) := dk_183 0 9 (dk_at dksX4_init_0 8 rfl rfl)
theorem dX4_init_11 : decode cX4_init 11 = .ok (.aload_n 0, 1) := dk_42 (dk_at dksX4_init_0 11 rfl rfl)
theorem dX4_init_12 : decode cX4_init 12 = .ok (.iload_n 3, 1) := dk_29 (dk_at dksX4_init_0 12 rfl rfl)
theorem dX4_init_13 : decode cX4_init 13 = .ok (.putfield 15, 3) := dk_181 0 15 (dk_at dksX4_init_0 13 rfl rfl)
theorem dX4_init_16 : decode cX4_init 16 = .ok (.return_, 1) := dk_177 (dk_at dksX4_init_0 16 rfl rfl)
abbrev cX4_kind : ByteArray := prog_2_method_2_code
def yX4_kind : MethodName := ⟨RX4, "kind", "()I"⟩
def dkwX4_kind_0 : List UInt8 := [42, 183, 0, 19, 5, 96, 172]
abbrev dktX4_kind_0 : List UInt8 := dkwX4_kind_0 ++ []
theorem dksX4_kind_0 : cX4_kind.data.toList.drop 0 = dktX4_kind_0 := by decide +kernel
theorem dX4_kind_0 : decode cX4_kind 0 = .ok (.aload_n 0, 1) := dk_42 (dk_at dksX4_kind_0 0 rfl rfl)
theorem dX4_kind_1 : decode cX4_kind 1 = .ok (.invokespecial 19, 3) := dk_183 0 19 (dk_at dksX4_kind_0 1 rfl rfl)
theorem dX4_kind_4 : decode cX4_kind 4 = .ok (.iconst 2, 1) := dk_5 (dk_at dksX4_kind_0 4 rfl rfl)
theorem dX4_kind_5 : decode cX4_kind 5 = .ok (.iadd, 1) := dk_96 (dk_at dksX4_kind_0 5 rfl rfl)
theorem dX4_kind_6 : decode cX4_kind 6 = .ok (.ireturn, 1) := dk_172 (dk_at dksX4_kind_0 6 rfl rfl)
abbrev cX4_other : ByteArray := prog_2_method_4_code
def yX4_other : MethodName := ⟨RX4, "other", "()I"⟩
theorem dX4_other_0 : decode cX4_other 0 = .ok (.aload_n 0, 1) := by decide +kernel
theorem dX4_other_1 : decode cX4_other 1 = .ok (.getfield 15, 3) := by decide +kernel
theorem dX4_other_4 : decode cX4_other 4 = .ok (.ireturn, 1) := by decide +kernel
abbrev cX4_holds : ByteArray := prog_2_method_3_code
def yX4_holds : MethodName := ⟨RX4, "holds", "(I)Z"⟩
def dkwX4_holds_1 : List UInt8 := [167, 0, 4, 3, 172]
abbrev dktX4_holds_1 : List UInt8 := dkwX4_holds_1 ++ []
def dkwX4_holds_0 : List UInt8 := [42, 27, 183, 0, 23, 153, 0, 22, 42, 180, 0, 3, 27, 42, 180, 0, 15, 182, 0, 27, 153, 0, 7, 4]
abbrev dktX4_holds_0 : List UInt8 := dkwX4_holds_0 ++ dktX4_holds_1
theorem dksX4_holds_0 : cX4_holds.data.toList.drop 0 = dktX4_holds_0 := by decide +kernel
theorem dksX4_holds_1 : cX4_holds.data.toList.drop 24 = dktX4_holds_1 := dk_seg dksX4_holds_0 24 rfl rfl
theorem dX4_holds_0 : decode cX4_holds 0 = .ok (.aload_n 0, 1) := dk_42 (dk_at dksX4_holds_0 0 rfl rfl)
theorem dX4_holds_1 : decode cX4_holds 1 = .ok (.iload_n 1, 1) := dk_27 (dk_at dksX4_holds_0 1 rfl rfl)
theorem dX4_holds_2 : decode cX4_holds 2 = .ok (.invokespecial 23, 3) := dk_183 0 23 (dk_at dksX4_holds_0 2 rfl rfl)
theorem dX4_holds_5 : decode cX4_holds 5 = .ok (.ifCond .eq 22, 3) := dk_153 0 22 (dk_at dksX4_holds_0 5 rfl rfl)
theorem dX4_holds_8 : decode cX4_holds 8 = .ok (.aload_n 0, 1) := dk_42 (dk_at dksX4_holds_0 8 rfl rfl)
theorem dX4_holds_9 : decode cX4_holds 9 = .ok (.getfield 3, 3) := dk_180 0 3 (dk_at dksX4_holds_0 9 rfl rfl)
theorem dX4_holds_12 : decode cX4_holds 12 = .ok (.iload_n 1, 1) := dk_27 (dk_at dksX4_holds_0 12 rfl rfl)
theorem dX4_holds_13 : decode cX4_holds 13 = .ok (.aload_n 0, 1) := dk_42 (dk_at dksX4_holds_0 13 rfl rfl)
theorem dX4_holds_14 : decode cX4_holds 14 = .ok (.getfield 15, 3) := dk_180 0 15 (dk_at dksX4_holds_0 14 rfl rfl)
theorem dX4_holds_17 : decode cX4_holds 17 = .ok (.invokevirtual 27, 3) := dk_182 0 27 (dk_at dksX4_holds_0 17 rfl rfl)
theorem dX4_holds_20 : decode cX4_holds 20 = .ok (.ifCond .eq 7, 3) := dk_153 0 7 (dk_at dksX4_holds_0 20 rfl rfl)
theorem dX4_holds_23 : decode cX4_holds 23 = .ok (.iconst 1, 1) := dk_4 (dk_at dksX4_holds_0 23 rfl rfl)
theorem dX4_holds_24 : decode cX4_holds 24 = .ok (.goto 4, 3) := dk_167 0 4 (dk_at dksX4_holds_1 0 rfl rfl)
theorem dX4_holds_27 : decode cX4_holds 27 = .ok (.iconst 0, 1) := dk_3 (dk_at dksX4_holds_1 3 rfl rfl)
theorem dX4_holds_28 : decode cX4_holds 28 = .ok (.ireturn, 1) := dk_172 (dk_at dksX4_holds_1 4 rfl rfl)
abbrev cX4_mark : ByteArray := prog_2_method_5_code
def yX4_mark : MethodName := ⟨RX4, "mark", "()I"⟩
def dkwX4_mark_1 : List UInt8 := [180, 0, 15, 96, 46, 184, 0, 38, 172]
abbrev dktX4_mark_1 : List UInt8 := dkwX4_mark_1 ++ []
def dkwX4_mark_0 : List UInt8 := [42, 180, 0, 3, 180, 0, 31, 8, 42, 180, 0, 35, 96, 46, 42, 180, 0, 3, 180, 0, 31, 8, 42]
abbrev dktX4_mark_0 : List UInt8 := dkwX4_mark_0 ++ dktX4_mark_1
theorem dksX4_mark_0 : cX4_mark.data.toList.drop 0 = dktX4_mark_0 := by decide +kernel
theorem dksX4_mark_1 : cX4_mark.data.toList.drop 23 = dktX4_mark_1 := dk_seg dksX4_mark_0 23 rfl rfl
theorem dX4_mark_0 : decode cX4_mark 0 = .ok (.aload_n 0, 1) := dk_42 (dk_at dksX4_mark_0 0 rfl rfl)
theorem dX4_mark_1 : decode cX4_mark 1 = .ok (.getfield 3, 3) := dk_180 0 3 (dk_at dksX4_mark_0 1 rfl rfl)
theorem dX4_mark_4 : decode cX4_mark 4 = .ok (.getfield 31, 3) := dk_180 0 31 (dk_at dksX4_mark_0 4 rfl rfl)
theorem dX4_mark_7 : decode cX4_mark 7 = .ok (.iconst 5, 1) := dk_8 (dk_at dksX4_mark_0 7 rfl rfl)
theorem dX4_mark_8 : decode cX4_mark 8 = .ok (.aload_n 0, 1) := dk_42 (dk_at dksX4_mark_0 8 rfl rfl)
theorem dX4_mark_9 : decode cX4_mark 9 = .ok (.getfield 35, 3) := dk_180 0 35 (dk_at dksX4_mark_0 9 rfl rfl)
theorem dX4_mark_12 : decode cX4_mark 12 = .ok (.iadd, 1) := dk_96 (dk_at dksX4_mark_0 12 rfl rfl)
theorem dX4_mark_13 : decode cX4_mark 13 = .ok (.iaload, 1) := dk_46 (dk_at dksX4_mark_0 13 rfl rfl)
theorem dX4_mark_14 : decode cX4_mark 14 = .ok (.aload_n 0, 1) := dk_42 (dk_at dksX4_mark_0 14 rfl rfl)
theorem dX4_mark_15 : decode cX4_mark 15 = .ok (.getfield 3, 3) := dk_180 0 3 (dk_at dksX4_mark_0 15 rfl rfl)
theorem dX4_mark_18 : decode cX4_mark 18 = .ok (.getfield 31, 3) := dk_180 0 31 (dk_at dksX4_mark_0 18 rfl rfl)
theorem dX4_mark_21 : decode cX4_mark 21 = .ok (.iconst 5, 1) := dk_8 (dk_at dksX4_mark_0 21 rfl rfl)
theorem dX4_mark_22 : decode cX4_mark 22 = .ok (.aload_n 0, 1) := dk_42 (dk_at dksX4_mark_0 22 rfl rfl)
theorem dX4_mark_23 : decode cX4_mark 23 = .ok (.getfield 15, 3) := dk_180 0 15 (dk_at dksX4_mark_1 0 rfl rfl)
theorem dX4_mark_26 : decode cX4_mark 26 = .ok (.iadd, 1) := dk_96 (dk_at dksX4_mark_1 3 rfl rfl)
theorem dX4_mark_27 : decode cX4_mark 27 = .ok (.iaload, 1) := dk_46 (dk_at dksX4_mark_1 4 rfl rfl)
theorem dX4_mark_28 : decode cX4_mark 28 = .ok (.invokestatic 38, 3) := dk_184 0 38 (dk_at dksX4_mark_1 5 rfl rfl)
theorem dX4_mark_31 : decode cX4_mark 31 = .ok (.ireturn, 1) := dk_172 (dk_at dksX4_mark_1 8 rfl rfl)
theorem q106 : (Jvm.Cond.initialized "NeitherBare$Both") ∈ lw_all := lw_g (lw_at lw_m1 15 rfl) rfl
theorem q146 : (Jvm.Cond.fieldLinkNest "NeitherBare$Both" (31 : Nat) "NeitherBare" "now" "[I" "NeitherBare") ∈ lw_tbl := lw_at lw_m1 55 rfl
theorem q462 : (Jvm.Cond.fieldLink "NeitherBare$Both" (35 : Nat) "NeitherBare$Both" "trait" "I") ∈ lw_all := lw_g (lw_at lw_m2 131 rfl) rfl
theorem q463 : (Jvm.Cond.sameField "NeitherBare$Both" "NeitherBare$Clause" "trait" "I") ∈ lw_all := lw_g (lw_at lw_m2 132 rfl) rfl
theorem q484 : (Jvm.Cond.instantiable "NeitherBare$Both" (4 : Nat)) ∈ lw_all := lw_g (lw_at lw_m2 153 rfl) rfl
theorem q486 : (Jvm.Cond.instanceMethod ({ cls := "NeitherBare$Both", name := "<init>", desc := "(LNeitherBare;II)V" } : Jvm.MethodName)) ∈ lw_all := lw_g (lw_at lw_m2 155 rfl) rfl
theorem q487 : (Jvm.Cond.code ({ cls := "NeitherBare$Both", name := "<init>", desc := "(LNeitherBare;II)V" } : Jvm.MethodName) prog_2_method_1_code (4 : Nat) (Option.none : Option Jvm.ClassFile.FieldType)) ∈ lw_all := lw_g (lw_at lw_m2 156 rfl) rfl
theorem q488 : (Jvm.Cond.methodLink "NeitherBare$Both" (9 : Nat) ({ cls := "NeitherBare$Clause", name := "<init>", desc := "(LNeitherBare;I)V" } : Jvm.MethodName)) ∈ lw_all := lw_g (lw_at lw_m2 157 rfl) rfl
theorem q489 : (Jvm.Cond.fieldLink "NeitherBare$Both" (15 : Nat) "NeitherBare$Both" "second" "I") ∈ lw_all := lw_g (lw_at lw_m2 158 rfl) rfl
theorem q492 : (Jvm.Cond.fieldLink "NeitherBare$Both" (3 : Nat) "NeitherBare$Both" "this$0" "LNeitherBare;") ∈ lw_all := lw_g (lw_at lw_m2 161 rfl) rfl
theorem q493 : (Jvm.Cond.laysFinal "NeitherBare$Both" "NeitherBare$Both" "second" "I") ∈ lw_all := lw_g (lw_at lw_m2 162 rfl) rfl
theorem q494 : (Jvm.Cond.soleField "NeitherBare$Both" "second") ∈ lw_all := lw_g (lw_at lw_m2 163 rfl) rfl
theorem q495 : (Jvm.Cond.laysFinal "NeitherBare$Both" "NeitherBare$Both" "this$0" "LNeitherBare;") ∈ lw_all := lw_g (lw_at lw_m2 164 rfl) rfl
theorem q496 : (Jvm.Cond.soleField "NeitherBare$Both" "this$0") ∈ lw_all := lw_g (lw_at lw_m2 165 rfl) rfl
theorem q497 : (Jvm.Cond.laysFinal "NeitherBare$Both" "NeitherBare$Clause" "trait" "I") ∈ lw_all := lw_g (lw_at lw_m2 166 rfl) rfl
theorem q498 : (Jvm.Cond.laysFinal "NeitherBare$Both" "NeitherBare$Clause" "this$0" "LNeitherBare;") ∈ lw_all := lw_g (lw_at lw_m2 167 rfl) rfl
theorem q499 : (Jvm.Cond.superclass "NeitherBare$Both" "NeitherBare$Clause") ∈ lw_all := lw_g (lw_at lw_m2 168 rfl) rfl
theorem q563 : (Jvm.Cond.selects "NeitherBare$Both" ({ cls := "NeitherBare$Clause", name := "kind", desc := "()I" } : Jvm.MethodName) ({ cls := "NeitherBare$Both", name := "kind", desc := "()I" } : Jvm.MethodName)) ∈ lw_all := lw_g (lw_at lw_m2 232 rfl) rfl
theorem q564 : (Jvm.Cond.instanceMethod ({ cls := "NeitherBare$Both", name := "kind", desc := "()I" } : Jvm.MethodName)) ∈ lw_all := lw_g (lw_at lw_m2 233 rfl) rfl
theorem q565 : (Jvm.Cond.code ({ cls := "NeitherBare$Both", name := "kind", desc := "()I" } : Jvm.MethodName) prog_2_method_2_code (1 : Nat) (Option.some Jvm.ClassFile.FieldType.int)) ∈ lw_all := lw_g (lw_at lw_m2 234 rfl) rfl
theorem q566 : (Jvm.Cond.methodLink "NeitherBare$Both" (19 : Nat) ({ cls := "NeitherBare$Clause", name := "kind", desc := "()I" } : Jvm.MethodName)) ∈ lw_all := lw_g (lw_at lw_m2 235 rfl) rfl
theorem q588 : (Jvm.Cond.castable "NeitherBare$Both" "NeitherBare$Says") ∈ lw_tbl := lw_at lw_m3 17 rfl
theorem q589 : (Jvm.Cond.selects "NeitherBare$Both" ({ cls := "NeitherBare$Says", name := "other", desc := "()I" } : Jvm.MethodName) ({ cls := "NeitherBare$Both", name := "other", desc := "()I" } : Jvm.MethodName)) ∈ lw_all := lw_g (lw_at lw_m3 18 rfl) rfl
theorem q590 : (Jvm.Cond.unhidden "NeitherBare$Both" "other" "()I") ∈ lw_tbl := lw_at lw_m3 19 rfl
theorem q591 : (Jvm.Cond.instanceMethod ({ cls := "NeitherBare$Both", name := "other", desc := "()I" } : Jvm.MethodName)) ∈ lw_all := lw_g (lw_at lw_m3 20 rfl) rfl
theorem q592 : (Jvm.Cond.publicMethod ({ cls := "NeitherBare$Both", name := "other", desc := "()I" } : Jvm.MethodName)) ∈ lw_tbl := lw_at lw_m3 21 rfl
theorem q593 : (Jvm.Cond.code ({ cls := "NeitherBare$Both", name := "other", desc := "()I" } : Jvm.MethodName) prog_2_method_4_code (1 : Nat) (Option.some Jvm.ClassFile.FieldType.int)) ∈ lw_all := lw_g (lw_at lw_m3 22 rfl) rfl
theorem q627 : (Jvm.Cond.selects "NeitherBare$Both" ({ cls := "NeitherBare$Says", name := "holds", desc := "(I)Z" } : Jvm.MethodName) ({ cls := "NeitherBare$Both", name := "holds", desc := "(I)Z" } : Jvm.MethodName)) ∈ lw_all := lw_g (lw_at lw_m3 56 rfl) rfl
theorem q628 : (Jvm.Cond.unhidden "NeitherBare$Both" "holds" "(I)Z") ∈ lw_tbl := lw_at lw_m3 57 rfl
theorem q629 : (Jvm.Cond.instanceMethod ({ cls := "NeitherBare$Both", name := "holds", desc := "(I)Z" } : Jvm.MethodName)) ∈ lw_all := lw_g (lw_at lw_m3 58 rfl) rfl
theorem q630 : (Jvm.Cond.publicMethod ({ cls := "NeitherBare$Both", name := "holds", desc := "(I)Z" } : Jvm.MethodName)) ∈ lw_tbl := lw_at lw_m3 59 rfl
theorem q631 : (Jvm.Cond.code ({ cls := "NeitherBare$Both", name := "holds", desc := "(I)Z" } : Jvm.MethodName) prog_2_method_3_code (2 : Nat) (Option.some Jvm.ClassFile.FieldType.boolean)) ∈ lw_all := lw_g (lw_at lw_m3 60 rfl) rfl
theorem q632 : (Jvm.Cond.methodLink "NeitherBare$Both" (23 : Nat) ({ cls := "NeitherBare$Clause", name := "holds", desc := "(I)Z" } : Jvm.MethodName)) ∈ lw_all := lw_g (lw_at lw_m3 61 rfl) rfl
theorem q646 : (Jvm.Cond.methodLinkNest "NeitherBare$Both" (27 : Nat) ({ cls := "NeitherBare", name := "isMuch", desc := "(II)Z" } : Jvm.MethodName) "NeitherBare") ∈ lw_tbl := lw_at lw_m3 75 rfl
theorem q723 : (Jvm.Cond.instanceMethod ({ cls := "NeitherBare$Both", name := "mark", desc := "()I" } : Jvm.MethodName)) ∈ lw_all := lw_g (lw_at lw_m3 152 rfl) rfl
theorem q724 : (Jvm.Cond.code ({ cls := "NeitherBare$Both", name := "mark", desc := "()I" } : Jvm.MethodName) prog_2_method_5_code (1 : Nat) (Option.some Jvm.ClassFile.FieldType.int)) ∈ lw_all := lw_g (lw_at lw_m3 153 rfl) rfl
theorem q725 : (Jvm.Cond.methodLink "NeitherBare$Both" (38 : Nat) ({ cls := "java/lang/Math", name := "max", desc := "(II)I" } : Jvm.MethodName)) ∈ lw_all := lw_g (lw_at lw_m3 154 rfl) rfl
theorem q1539 : (Jvm.Cond.sameMethod "NeitherBare$Both" "NeitherBare$Both" "kind" "()I") ∈ lw_all := lw_g (lw_at lw_m7 8 rfl) rfl
theorem q1546 : (Jvm.Cond.sameMethod "NeitherBare$Both" "NeitherBare$Both" "mark" "()I") ∈ lw_all := lw_g (lw_at lw_m7 15 rfl) rfl
theorem q1547 : (Jvm.Cond.selects "NeitherBare$Both" ({ cls := "NeitherBare$Both", name := "mark", desc := "()I" } : Jvm.MethodName) ({ cls := "NeitherBare$Both", name := "mark", desc := "()I" } : Jvm.MethodName)) ∈ lw_all := lw_g (lw_at lw_m7 16 rfl) rfl
theorem q1555 : (Jvm.Cond.castable "NeitherBare$Both" "NeitherBare$Clause") ∈ lw_tbl := lw_at lw_m7 24 rfl
theorem in_X4 : ∀ w ∈ wsX40, w ∈ lw_all := lw_in wsX40 [497, 498, 493, 495] (by decide +kernel) (by decide +kernel)

/-! NeitherBare$Undone -/
set_option maxRecDepth 100000
def RX5 : String := "NeitherBare$Undone"
def TX5 : u_T := fun k => match k with
  | 0 => ("NeitherBare$Clause", "trait", "I", true)
  | 1 => ("NeitherBare$Clause", "this$0", "LNeitherBare;", true)
  | _ => ("NeitherBare$Undone", "this$0", "LNeitherBare;", true)
def tyX5 : Nat → FieldType := fun k => match k with
  | 0 => .int
  | 1 => .object "NeitherBare"
  | _ => .object "NeitherBare"
abbrev wsX50 : List Cond := u_ws RX5 TX5 3
-- two fields of one name: no nmX5
theorem tyX5_ok : ∀ k, k < 3 → parseFieldDescriptor (TX5 k).2.2.1 = some (tyX5 k) := by decide +kernel
abbrev cX5_init : ByteArray := prog_8_method_1_code
def yX5_init : MethodName := ⟨RX5, "<init>", "(LNeitherBare;I)V"⟩
def dkwX5_init_0 : List UInt8 := [42, 43, 181, 0, 1, 42, 43, 28, 183, 0, 7, 177]
abbrev dktX5_init_0 : List UInt8 := dkwX5_init_0 ++ []
theorem dksX5_init_0 : cX5_init.data.toList.drop 0 = dktX5_init_0 := by decide +kernel
theorem dX5_init_0 : decode cX5_init 0 = .ok (.aload_n 0, 1) := dk_42 (dk_at dksX5_init_0 0 rfl rfl)
theorem dX5_init_1 : decode cX5_init 1 = .ok (.aload_n 1, 1) := dk_43 (dk_at dksX5_init_0 1 rfl rfl)
theorem dX5_init_2 : decode cX5_init 2 = .ok (.putfield 1, 3) := dk_181 0 1 (dk_at dksX5_init_0 2 rfl rfl)
theorem dX5_init_5 : decode cX5_init 5 = .ok (.aload_n 0, 1) := dk_42 (dk_at dksX5_init_0 5 rfl rfl)
theorem dX5_init_6 : decode cX5_init 6 = .ok (.aload_n 1, 1) := dk_43 (dk_at dksX5_init_0 6 rfl rfl)
theorem dX5_init_7 : decode cX5_init 7 = .ok (.iload_n 2, 1) := dk_28 (dk_at dksX5_init_0 7 rfl rfl)
theorem dX5_init_8 : decode cX5_init 8 = .ok (.invokespecial 7, 3) := dk_183 0 7 (dk_at dksX5_init_0 8 rfl rfl)
theorem dX5_init_11 : decode cX5_init 11 = .ok (.return_, 1) := dk_177 (dk_at dksX5_init_0 11 rfl rfl)
abbrev cX5_kind : ByteArray := prog_8_method_2_code
def yX5_kind : MethodName := ⟨RX5, "kind", "()I"⟩
def dkwX5_kind_0 : List UInt8 := [42, 183, 0, 13, 6, 96, 172]
abbrev dktX5_kind_0 : List UInt8 := dkwX5_kind_0 ++ []
theorem dksX5_kind_0 : cX5_kind.data.toList.drop 0 = dktX5_kind_0 := by decide +kernel
theorem dX5_kind_0 : decode cX5_kind 0 = .ok (.aload_n 0, 1) := dk_42 (dk_at dksX5_kind_0 0 rfl rfl)
theorem dX5_kind_1 : decode cX5_kind 1 = .ok (.invokespecial 13, 3) := dk_183 0 13 (dk_at dksX5_kind_0 1 rfl rfl)
theorem dX5_kind_4 : decode cX5_kind 4 = .ok (.iconst 3, 1) := dk_6 (dk_at dksX5_kind_0 4 rfl rfl)
theorem dX5_kind_5 : decode cX5_kind 5 = .ok (.iadd, 1) := dk_96 (dk_at dksX5_kind_0 5 rfl rfl)
theorem dX5_kind_6 : decode cX5_kind 6 = .ok (.ireturn, 1) := dk_172 (dk_at dksX5_kind_0 6 rfl rfl)
abbrev cX5_holds : ByteArray := prog_8_method_3_code
def yX5_holds : MethodName := ⟨RX5, "holds", "(I)Z"⟩
def dkwX5_holds_0 : List UInt8 := [42, 27, 183, 0, 17, 154, 0, 7, 4, 167, 0, 4, 3, 172]
abbrev dktX5_holds_0 : List UInt8 := dkwX5_holds_0 ++ []
theorem dksX5_holds_0 : cX5_holds.data.toList.drop 0 = dktX5_holds_0 := by decide +kernel
theorem dX5_holds_0 : decode cX5_holds 0 = .ok (.aload_n 0, 1) := dk_42 (dk_at dksX5_holds_0 0 rfl rfl)
theorem dX5_holds_1 : decode cX5_holds 1 = .ok (.iload_n 1, 1) := dk_27 (dk_at dksX5_holds_0 1 rfl rfl)
theorem dX5_holds_2 : decode cX5_holds 2 = .ok (.invokespecial 17, 3) := dk_183 0 17 (dk_at dksX5_holds_0 2 rfl rfl)
theorem dX5_holds_5 : decode cX5_holds 5 = .ok (.ifCond .ne 7, 3) := dk_154 0 7 (dk_at dksX5_holds_0 5 rfl rfl)
theorem dX5_holds_8 : decode cX5_holds 8 = .ok (.iconst 1, 1) := dk_4 (dk_at dksX5_holds_0 8 rfl rfl)
theorem dX5_holds_9 : decode cX5_holds 9 = .ok (.goto 4, 3) := dk_167 0 4 (dk_at dksX5_holds_0 9 rfl rfl)
theorem dX5_holds_12 : decode cX5_holds 12 = .ok (.iconst 0, 1) := dk_3 (dk_at dksX5_holds_0 12 rfl rfl)
theorem dX5_holds_13 : decode cX5_holds 13 = .ok (.ireturn, 1) := dk_172 (dk_at dksX5_holds_0 13 rfl rfl)
abbrev cX5_mark : ByteArray := prog_8_method_4_code
def yX5_mark : MethodName := ⟨RX5, "mark", "()I"⟩
def dkwX5_mark_1 : List UInt8 := [180, 0, 27, 182, 0, 30, 153, 0, 7, 4, 167, 0, 4, 3, 96, 60, 132, 2, 1, 167, 255, 217, 27, 172]
abbrev dktX5_mark_1 : List UInt8 := dkwX5_mark_1 ++ []
def dkwX5_mark_0 : List UInt8 := [3, 60, 3, 61, 28, 42, 180, 0, 1, 180, 0, 21, 162, 0, 34, 27, 42, 180, 0, 1, 4, 28, 120, 42]
abbrev dktX5_mark_0 : List UInt8 := dkwX5_mark_0 ++ dktX5_mark_1
theorem dksX5_mark_0 : cX5_mark.data.toList.drop 0 = dktX5_mark_0 := by decide +kernel
theorem dksX5_mark_1 : cX5_mark.data.toList.drop 24 = dktX5_mark_1 := dk_seg dksX5_mark_0 24 rfl rfl
theorem dX5_mark_0 : decode cX5_mark 0 = .ok (.iconst 0, 1) := dk_3 (dk_at dksX5_mark_0 0 rfl rfl)
theorem dX5_mark_1 : decode cX5_mark 1 = .ok (.istore_n 1, 1) := dk_60 (dk_at dksX5_mark_0 1 rfl rfl)
theorem dX5_mark_2 : decode cX5_mark 2 = .ok (.iconst 0, 1) := dk_3 (dk_at dksX5_mark_0 2 rfl rfl)
theorem dX5_mark_3 : decode cX5_mark 3 = .ok (.istore_n 2, 1) := dk_61 (dk_at dksX5_mark_0 3 rfl rfl)
theorem dX5_mark_4 : decode cX5_mark 4 = .ok (.iload_n 2, 1) := dk_28 (dk_at dksX5_mark_0 4 rfl rfl)
theorem dX5_mark_5 : decode cX5_mark 5 = .ok (.aload_n 0, 1) := dk_42 (dk_at dksX5_mark_0 5 rfl rfl)
theorem dX5_mark_6 : decode cX5_mark 6 = .ok (.getfield 1, 3) := dk_180 0 1 (dk_at dksX5_mark_0 6 rfl rfl)
theorem dX5_mark_9 : decode cX5_mark 9 = .ok (.getfield 21, 3) := dk_180 0 21 (dk_at dksX5_mark_0 9 rfl rfl)
theorem dX5_mark_12 : decode cX5_mark 12 = .ok (.if_icmp .ge 34, 3) := dk_162 0 34 (dk_at dksX5_mark_0 12 rfl rfl)
theorem dX5_mark_15 : decode cX5_mark 15 = .ok (.iload_n 1, 1) := dk_27 (dk_at dksX5_mark_0 15 rfl rfl)
theorem dX5_mark_16 : decode cX5_mark 16 = .ok (.aload_n 0, 1) := dk_42 (dk_at dksX5_mark_0 16 rfl rfl)
theorem dX5_mark_17 : decode cX5_mark 17 = .ok (.getfield 1, 3) := dk_180 0 1 (dk_at dksX5_mark_0 17 rfl rfl)
theorem dX5_mark_20 : decode cX5_mark 20 = .ok (.iconst 1, 1) := dk_4 (dk_at dksX5_mark_0 20 rfl rfl)
theorem dX5_mark_21 : decode cX5_mark 21 = .ok (.iload_n 2, 1) := dk_28 (dk_at dksX5_mark_0 21 rfl rfl)
theorem dX5_mark_22 : decode cX5_mark 22 = .ok (.ishl, 1) := dk_120 (dk_at dksX5_mark_0 22 rfl rfl)
theorem dX5_mark_23 : decode cX5_mark 23 = .ok (.aload_n 0, 1) := dk_42 (dk_at dksX5_mark_0 23 rfl rfl)
theorem dX5_mark_24 : decode cX5_mark 24 = .ok (.getfield 27, 3) := dk_180 0 27 (dk_at dksX5_mark_1 0 rfl rfl)
theorem dX5_mark_27 : decode cX5_mark 27 = .ok (.invokevirtual 30, 3) := dk_182 0 30 (dk_at dksX5_mark_1 3 rfl rfl)
theorem dX5_mark_30 : decode cX5_mark 30 = .ok (.ifCond .eq 7, 3) := dk_153 0 7 (dk_at dksX5_mark_1 6 rfl rfl)
theorem dX5_mark_33 : decode cX5_mark 33 = .ok (.iconst 1, 1) := dk_4 (dk_at dksX5_mark_1 9 rfl rfl)
theorem dX5_mark_34 : decode cX5_mark 34 = .ok (.goto 4, 3) := dk_167 0 4 (dk_at dksX5_mark_1 10 rfl rfl)
theorem dX5_mark_37 : decode cX5_mark 37 = .ok (.iconst 0, 1) := dk_3 (dk_at dksX5_mark_1 13 rfl rfl)
theorem dX5_mark_38 : decode cX5_mark 38 = .ok (.iadd, 1) := dk_96 (dk_at dksX5_mark_1 14 rfl rfl)
theorem dX5_mark_39 : decode cX5_mark 39 = .ok (.istore_n 1, 1) := dk_60 (dk_at dksX5_mark_1 15 rfl rfl)
theorem dX5_mark_40 : decode cX5_mark 40 = .ok (.iinc 2 1, 3) := dk_132 2 1 (dk_at dksX5_mark_1 16 rfl rfl)
theorem dX5_mark_43 : decode cX5_mark 43 = .ok (.goto (-39), 3) := dk_167 255 217 (dk_at dksX5_mark_1 19 rfl rfl)
theorem dX5_mark_46 : decode cX5_mark 46 = .ok (.iload_n 1, 1) := dk_27 (dk_at dksX5_mark_1 22 rfl rfl)
theorem dX5_mark_47 : decode cX5_mark 47 = .ok (.ireturn, 1) := dk_172 (dk_at dksX5_mark_1 23 rfl rfl)
theorem q107 : (Jvm.Cond.initialized "NeitherBare$Undone") ∈ lw_all := lw_g (lw_at lw_m1 16 rfl) rfl
theorem q139 : (Jvm.Cond.fieldLinkNest "NeitherBare$Undone" (21 : Nat) "NeitherBare" "thingMany" "I" "NeitherBare") ∈ lw_tbl := lw_at lw_m1 48 rfl
theorem q460 : (Jvm.Cond.fieldLink "NeitherBare$Undone" (27 : Nat) "NeitherBare$Undone" "trait" "I") ∈ lw_all := lw_g (lw_at lw_m2 129 rfl) rfl
theorem q461 : (Jvm.Cond.sameField "NeitherBare$Undone" "NeitherBare$Clause" "trait" "I") ∈ lw_all := lw_g (lw_at lw_m2 130 rfl) rfl
theorem q501 : (Jvm.Cond.instantiable "NeitherBare$Undone" (3 : Nat)) ∈ lw_all := lw_g (lw_at lw_m2 170 rfl) rfl
theorem q503 : (Jvm.Cond.instanceMethod ({ cls := "NeitherBare$Undone", name := "<init>", desc := "(LNeitherBare;I)V" } : Jvm.MethodName)) ∈ lw_all := lw_g (lw_at lw_m2 172 rfl) rfl
theorem q504 : (Jvm.Cond.code ({ cls := "NeitherBare$Undone", name := "<init>", desc := "(LNeitherBare;I)V" } : Jvm.MethodName) prog_8_method_1_code (3 : Nat) (Option.none : Option Jvm.ClassFile.FieldType)) ∈ lw_all := lw_g (lw_at lw_m2 173 rfl) rfl
theorem q505 : (Jvm.Cond.methodLink "NeitherBare$Undone" (7 : Nat) ({ cls := "NeitherBare$Clause", name := "<init>", desc := "(LNeitherBare;I)V" } : Jvm.MethodName)) ∈ lw_all := lw_g (lw_at lw_m2 174 rfl) rfl
theorem q506 : (Jvm.Cond.fieldLink "NeitherBare$Undone" (1 : Nat) "NeitherBare$Undone" "this$0" "LNeitherBare;") ∈ lw_all := lw_g (lw_at lw_m2 175 rfl) rfl
theorem q507 : (Jvm.Cond.laysFinal "NeitherBare$Undone" "NeitherBare$Undone" "this$0" "LNeitherBare;") ∈ lw_all := lw_g (lw_at lw_m2 176 rfl) rfl
theorem q508 : (Jvm.Cond.soleField "NeitherBare$Undone" "this$0") ∈ lw_all := lw_g (lw_at lw_m2 177 rfl) rfl
theorem q509 : (Jvm.Cond.laysFinal "NeitherBare$Undone" "NeitherBare$Clause" "trait" "I") ∈ lw_all := lw_g (lw_at lw_m2 178 rfl) rfl
theorem q510 : (Jvm.Cond.laysFinal "NeitherBare$Undone" "NeitherBare$Clause" "this$0" "LNeitherBare;") ∈ lw_all := lw_g (lw_at lw_m2 179 rfl) rfl
theorem q511 : (Jvm.Cond.superclass "NeitherBare$Undone" "NeitherBare$Clause") ∈ lw_all := lw_g (lw_at lw_m2 180 rfl) rfl
theorem q579 : (Jvm.Cond.selects "NeitherBare$Undone" ({ cls := "NeitherBare$Clause", name := "kind", desc := "()I" } : Jvm.MethodName) ({ cls := "NeitherBare$Undone", name := "kind", desc := "()I" } : Jvm.MethodName)) ∈ lw_all := lw_g (lw_at lw_m3 8 rfl) rfl
theorem q580 : (Jvm.Cond.instanceMethod ({ cls := "NeitherBare$Undone", name := "kind", desc := "()I" } : Jvm.MethodName)) ∈ lw_all := lw_g (lw_at lw_m3 9 rfl) rfl
theorem q581 : (Jvm.Cond.code ({ cls := "NeitherBare$Undone", name := "kind", desc := "()I" } : Jvm.MethodName) prog_8_method_2_code (1 : Nat) (Option.some Jvm.ClassFile.FieldType.int)) ∈ lw_all := lw_g (lw_at lw_m3 10 rfl) rfl
theorem q582 : (Jvm.Cond.methodLink "NeitherBare$Undone" (13 : Nat) ({ cls := "NeitherBare$Clause", name := "kind", desc := "()I" } : Jvm.MethodName)) ∈ lw_all := lw_g (lw_at lw_m3 11 rfl) rfl
theorem q606 : (Jvm.Cond.castable "NeitherBare$Undone" "NeitherBare$Says") ∈ lw_tbl := lw_at lw_m3 35 rfl
theorem q607 : (Jvm.Cond.unhidden "NeitherBare$Undone" "other" "()I") ∈ lw_tbl := lw_at lw_m3 36 rfl
theorem q678 : (Jvm.Cond.selects "NeitherBare$Undone" ({ cls := "NeitherBare$Says", name := "holds", desc := "(I)Z" } : Jvm.MethodName) ({ cls := "NeitherBare$Undone", name := "holds", desc := "(I)Z" } : Jvm.MethodName)) ∈ lw_all := lw_g (lw_at lw_m3 107 rfl) rfl
theorem q679 : (Jvm.Cond.unhidden "NeitherBare$Undone" "holds" "(I)Z") ∈ lw_tbl := lw_at lw_m3 108 rfl
theorem q680 : (Jvm.Cond.instanceMethod ({ cls := "NeitherBare$Undone", name := "holds", desc := "(I)Z" } : Jvm.MethodName)) ∈ lw_all := lw_g (lw_at lw_m3 109 rfl) rfl
theorem q681 : (Jvm.Cond.publicMethod ({ cls := "NeitherBare$Undone", name := "holds", desc := "(I)Z" } : Jvm.MethodName)) ∈ lw_tbl := lw_at lw_m3 110 rfl
theorem q682 : (Jvm.Cond.code ({ cls := "NeitherBare$Undone", name := "holds", desc := "(I)Z" } : Jvm.MethodName) prog_8_method_3_code (2 : Nat) (Option.some Jvm.ClassFile.FieldType.boolean)) ∈ lw_all := lw_g (lw_at lw_m3 111 rfl) rfl
theorem q683 : (Jvm.Cond.methodLink "NeitherBare$Undone" (17 : Nat) ({ cls := "NeitherBare$Clause", name := "holds", desc := "(I)Z" } : Jvm.MethodName)) ∈ lw_all := lw_g (lw_at lw_m3 112 rfl) rfl
theorem q733 : (Jvm.Cond.instanceMethod ({ cls := "NeitherBare$Undone", name := "mark", desc := "()I" } : Jvm.MethodName)) ∈ lw_all := lw_g (lw_at lw_m3 162 rfl) rfl
theorem q734 : (Jvm.Cond.selects "NeitherBare$Undone" ({ cls := "NeitherBare$Undone", name := "mark", desc := "()I" } : Jvm.MethodName) ({ cls := "NeitherBare$Undone", name := "mark", desc := "()I" } : Jvm.MethodName)) ∈ lw_all := lw_g (lw_at lw_m3 163 rfl) rfl
theorem q735 : (Jvm.Cond.code ({ cls := "NeitherBare$Undone", name := "mark", desc := "()I" } : Jvm.MethodName) prog_8_method_4_code (3 : Nat) (Option.some Jvm.ClassFile.FieldType.int)) ∈ lw_all := lw_g (lw_at lw_m3 164 rfl) rfl
theorem q736 : (Jvm.Cond.methodLinkNest "NeitherBare$Undone" (30 : Nat) ({ cls := "NeitherBare", name := "isMuch", desc := "(II)Z" } : Jvm.MethodName) "NeitherBare") ∈ lw_tbl := lw_at lw_m3 165 rfl
theorem q1556 : (Jvm.Cond.castable "NeitherBare$Undone" "NeitherBare$Clause") ∈ lw_tbl := lw_at lw_m7 25 rfl
theorem in_X5 : ∀ w ∈ wsX50, w ∈ lw_all := lw_in wsX50 [509, 510, 507] (by decide +kernel) (by decide +kernel)

/-! NeitherBare$Half -/
set_option maxRecDepth 100000
def RX6 : String := "NeitherBare$Half"
def TX6 : u_T := fun k => match k with
  | 0 => ("NeitherBare$Clause", "trait", "I", true)
  | 1 => ("NeitherBare$Clause", "this$0", "LNeitherBare;", true)
  | 2 => ("NeitherBare$Neither", "this$0", "LNeitherBare;", true)
  | _ => ("NeitherBare$Half", "this$0", "LNeitherBare;", true)
def tyX6 : Nat → FieldType := fun k => match k with
  | 0 => .int
  | 1 => .object "NeitherBare"
  | 2 => .object "NeitherBare"
  | _ => .object "NeitherBare"
abbrev wsX60 : List Cond := u_ws RX6 TX6 4
-- two fields of one name: no nmX6
theorem tyX6_ok : ∀ k, k < 4 → parseFieldDescriptor (TX6 k).2.2.1 = some (tyX6 k) := by decide +kernel
abbrev cX6_init : ByteArray := prog_5_method_1_code
def yX6_init : MethodName := ⟨RX6, "<init>", "(LNeitherBare;I)V"⟩
def dkwX6_init_0 : List UInt8 := [42, 43, 181, 0, 3, 42, 43, 28, 183, 0, 9, 177]
abbrev dktX6_init_0 : List UInt8 := dkwX6_init_0 ++ []
theorem dksX6_init_0 : cX6_init.data.toList.drop 0 = dktX6_init_0 := by decide +kernel
theorem dX6_init_0 : decode cX6_init 0 = .ok (.aload_n 0, 1) := dk_42 (dk_at dksX6_init_0 0 rfl rfl)
theorem dX6_init_1 : decode cX6_init 1 = .ok (.aload_n 1, 1) := dk_43 (dk_at dksX6_init_0 1 rfl rfl)
theorem dX6_init_2 : decode cX6_init 2 = .ok (.putfield 3, 3) := dk_181 0 3 (dk_at dksX6_init_0 2 rfl rfl)
theorem dX6_init_5 : decode cX6_init 5 = .ok (.aload_n 0, 1) := dk_42 (dk_at dksX6_init_0 5 rfl rfl)
theorem dX6_init_6 : decode cX6_init 6 = .ok (.aload_n 1, 1) := dk_43 (dk_at dksX6_init_0 6 rfl rfl)
theorem dX6_init_7 : decode cX6_init 7 = .ok (.iload_n 2, 1) := dk_28 (dk_at dksX6_init_0 7 rfl rfl)
theorem dX6_init_8 : decode cX6_init 8 = .ok (.invokespecial 9, 3) := dk_183 0 9 (dk_at dksX6_init_0 8 rfl rfl)
theorem dX6_init_11 : decode cX6_init 11 = .ok (.return_, 1) := dk_177 (dk_at dksX6_init_0 11 rfl rfl)
abbrev cX6_kind : ByteArray := prog_5_method_2_code
def yX6_kind : MethodName := ⟨RX6, "kind", "()I"⟩
def dkwX6_kind_0 : List UInt8 := [42, 183, 0, 15, 6, 96, 172]
abbrev dktX6_kind_0 : List UInt8 := dkwX6_kind_0 ++ []
theorem dksX6_kind_0 : cX6_kind.data.toList.drop 0 = dktX6_kind_0 := by decide +kernel
theorem dX6_kind_0 : decode cX6_kind 0 = .ok (.aload_n 0, 1) := dk_42 (dk_at dksX6_kind_0 0 rfl rfl)
theorem dX6_kind_1 : decode cX6_kind 1 = .ok (.invokespecial 15, 3) := dk_183 0 15 (dk_at dksX6_kind_0 1 rfl rfl)
theorem dX6_kind_4 : decode cX6_kind 4 = .ok (.iconst 3, 1) := dk_6 (dk_at dksX6_kind_0 4 rfl rfl)
theorem dX6_kind_5 : decode cX6_kind 5 = .ok (.iadd, 1) := dk_96 (dk_at dksX6_kind_0 5 rfl rfl)
theorem dX6_kind_6 : decode cX6_kind 6 = .ok (.ireturn, 1) := dk_172 (dk_at dksX6_kind_0 6 rfl rfl)
abbrev cX6_holds : ByteArray := prog_5_method_4_code
def yX6_holds : MethodName := ⟨RX6, "holds", "(I)Z"⟩
def dkwX6_holds_1 : List UInt8 := [160, 0, 7, 4, 167, 0, 4, 3, 172]
abbrev dktX6_holds_1 : List UInt8 := dkwX6_holds_1 ++ []
def dkwX6_holds_0 : List UInt8 := [42, 27, 183, 0, 27, 153, 0, 26, 42, 180, 0, 3, 27, 42, 180, 0, 23, 182, 0, 31, 42, 182, 0, 35]
abbrev dktX6_holds_0 : List UInt8 := dkwX6_holds_0 ++ dktX6_holds_1
theorem dksX6_holds_0 : cX6_holds.data.toList.drop 0 = dktX6_holds_0 := by decide +kernel
theorem dksX6_holds_1 : cX6_holds.data.toList.drop 24 = dktX6_holds_1 := dk_seg dksX6_holds_0 24 rfl rfl
theorem dX6_holds_0 : decode cX6_holds 0 = .ok (.aload_n 0, 1) := dk_42 (dk_at dksX6_holds_0 0 rfl rfl)
theorem dX6_holds_1 : decode cX6_holds 1 = .ok (.iload_n 1, 1) := dk_27 (dk_at dksX6_holds_0 1 rfl rfl)
theorem dX6_holds_2 : decode cX6_holds 2 = .ok (.invokespecial 27, 3) := dk_183 0 27 (dk_at dksX6_holds_0 2 rfl rfl)
theorem dX6_holds_5 : decode cX6_holds 5 = .ok (.ifCond .eq 26, 3) := dk_153 0 26 (dk_at dksX6_holds_0 5 rfl rfl)
theorem dX6_holds_8 : decode cX6_holds 8 = .ok (.aload_n 0, 1) := dk_42 (dk_at dksX6_holds_0 8 rfl rfl)
theorem dX6_holds_9 : decode cX6_holds 9 = .ok (.getfield 3, 3) := dk_180 0 3 (dk_at dksX6_holds_0 9 rfl rfl)
theorem dX6_holds_12 : decode cX6_holds 12 = .ok (.iload_n 1, 1) := dk_27 (dk_at dksX6_holds_0 12 rfl rfl)
theorem dX6_holds_13 : decode cX6_holds 13 = .ok (.aload_n 0, 1) := dk_42 (dk_at dksX6_holds_0 13 rfl rfl)
theorem dX6_holds_14 : decode cX6_holds 14 = .ok (.getfield 23, 3) := dk_180 0 23 (dk_at dksX6_holds_0 14 rfl rfl)
theorem dX6_holds_17 : decode cX6_holds 17 = .ok (.invokevirtual 31, 3) := dk_182 0 31 (dk_at dksX6_holds_0 17 rfl rfl)
theorem dX6_holds_20 : decode cX6_holds 20 = .ok (.aload_n 0, 1) := dk_42 (dk_at dksX6_holds_0 20 rfl rfl)
theorem dX6_holds_21 : decode cX6_holds 21 = .ok (.invokevirtual 35, 3) := dk_182 0 35 (dk_at dksX6_holds_0 21 rfl rfl)
theorem dX6_holds_24 : decode cX6_holds 24 = .ok (.if_icmp .ne 7, 3) := dk_160 0 7 (dk_at dksX6_holds_1 0 rfl rfl)
theorem dX6_holds_27 : decode cX6_holds 27 = .ok (.iconst 1, 1) := dk_4 (dk_at dksX6_holds_1 3 rfl rfl)
theorem dX6_holds_28 : decode cX6_holds 28 = .ok (.goto 4, 3) := dk_167 0 4 (dk_at dksX6_holds_1 4 rfl rfl)
theorem dX6_holds_31 : decode cX6_holds 31 = .ok (.iconst 0, 1) := dk_3 (dk_at dksX6_holds_1 7 rfl rfl)
theorem dX6_holds_32 : decode cX6_holds 32 = .ok (.ireturn, 1) := dk_172 (dk_at dksX6_holds_1 8 rfl rfl)
abbrev cX6_middle : ByteArray := prog_5_method_3_code
def yX6_middle : MethodName := ⟨RX6, "middle", "()I"⟩
def dkwX6_middle_1 : List UInt8 := [180, 0, 23, 96, 46, 96, 5, 108, 172]
abbrev dktX6_middle_1 : List UInt8 := dkwX6_middle_1 ++ []
def dkwX6_middle_0 : List UInt8 := [42, 180, 0, 3, 180, 0, 19, 4, 42, 180, 0, 23, 96, 46, 42, 180, 0, 3, 180, 0, 19, 8, 42]
abbrev dktX6_middle_0 : List UInt8 := dkwX6_middle_0 ++ dktX6_middle_1
theorem dksX6_middle_0 : cX6_middle.data.toList.drop 0 = dktX6_middle_0 := by decide +kernel
theorem dksX6_middle_1 : cX6_middle.data.toList.drop 23 = dktX6_middle_1 := dk_seg dksX6_middle_0 23 rfl rfl
theorem dX6_middle_0 : decode cX6_middle 0 = .ok (.aload_n 0, 1) := dk_42 (dk_at dksX6_middle_0 0 rfl rfl)
theorem dX6_middle_1 : decode cX6_middle 1 = .ok (.getfield 3, 3) := dk_180 0 3 (dk_at dksX6_middle_0 1 rfl rfl)
theorem dX6_middle_4 : decode cX6_middle 4 = .ok (.getfield 19, 3) := dk_180 0 19 (dk_at dksX6_middle_0 4 rfl rfl)
theorem dX6_middle_7 : decode cX6_middle 7 = .ok (.iconst 1, 1) := dk_4 (dk_at dksX6_middle_0 7 rfl rfl)
theorem dX6_middle_8 : decode cX6_middle 8 = .ok (.aload_n 0, 1) := dk_42 (dk_at dksX6_middle_0 8 rfl rfl)
theorem dX6_middle_9 : decode cX6_middle 9 = .ok (.getfield 23, 3) := dk_180 0 23 (dk_at dksX6_middle_0 9 rfl rfl)
theorem dX6_middle_12 : decode cX6_middle 12 = .ok (.iadd, 1) := dk_96 (dk_at dksX6_middle_0 12 rfl rfl)
theorem dX6_middle_13 : decode cX6_middle 13 = .ok (.iaload, 1) := dk_46 (dk_at dksX6_middle_0 13 rfl rfl)
theorem dX6_middle_14 : decode cX6_middle 14 = .ok (.aload_n 0, 1) := dk_42 (dk_at dksX6_middle_0 14 rfl rfl)
theorem dX6_middle_15 : decode cX6_middle 15 = .ok (.getfield 3, 3) := dk_180 0 3 (dk_at dksX6_middle_0 15 rfl rfl)
theorem dX6_middle_18 : decode cX6_middle 18 = .ok (.getfield 19, 3) := dk_180 0 19 (dk_at dksX6_middle_0 18 rfl rfl)
theorem dX6_middle_21 : decode cX6_middle 21 = .ok (.iconst 5, 1) := dk_8 (dk_at dksX6_middle_0 21 rfl rfl)
theorem dX6_middle_22 : decode cX6_middle 22 = .ok (.aload_n 0, 1) := dk_42 (dk_at dksX6_middle_0 22 rfl rfl)
theorem dX6_middle_23 : decode cX6_middle 23 = .ok (.getfield 23, 3) := dk_180 0 23 (dk_at dksX6_middle_1 0 rfl rfl)
theorem dX6_middle_26 : decode cX6_middle 26 = .ok (.iadd, 1) := dk_96 (dk_at dksX6_middle_1 3 rfl rfl)
theorem dX6_middle_27 : decode cX6_middle 27 = .ok (.iaload, 1) := dk_46 (dk_at dksX6_middle_1 4 rfl rfl)
theorem dX6_middle_28 : decode cX6_middle 28 = .ok (.iadd, 1) := dk_96 (dk_at dksX6_middle_1 5 rfl rfl)
theorem dX6_middle_29 : decode cX6_middle 29 = .ok (.iconst 2, 1) := dk_5 (dk_at dksX6_middle_1 6 rfl rfl)
theorem dX6_middle_30 : decode cX6_middle 30 = .ok (.idiv, 1) := dk_108 (dk_at dksX6_middle_1 7 rfl rfl)
theorem dX6_middle_31 : decode cX6_middle 31 = .ok (.ireturn, 1) := dk_172 (dk_at dksX6_middle_1 8 rfl rfl)
abbrev cX6_asNeither : ByteArray := prog_5_method_5_code
def yX6_asNeither : MethodName := ⟨RX6, "asNeither", "()I"⟩
theorem dX6_asNeither_0 : decode cX6_asNeither 0 = .ok (.aload_n 0, 1) := by decide +kernel
theorem dX6_asNeither_1 : decode cX6_asNeither 1 = .ok (.invokespecial 38, 3) := by decide +kernel
theorem dX6_asNeither_4 : decode cX6_asNeither 4 = .ok (.ireturn, 1) := by decide +kernel
abbrev cX6_mark : ByteArray := prog_5_method_6_code
def yX6_mark : MethodName := ⟨RX6, "mark", "()I"⟩
def dkwX6_mark_0 : List UInt8 := [42, 183, 0, 38, 158, 0, 10, 42, 182, 0, 35, 167, 0, 5, 16, 247, 172]
abbrev dktX6_mark_0 : List UInt8 := dkwX6_mark_0 ++ []
theorem dksX6_mark_0 : cX6_mark.data.toList.drop 0 = dktX6_mark_0 := by decide +kernel
theorem dX6_mark_0 : decode cX6_mark 0 = .ok (.aload_n 0, 1) := dk_42 (dk_at dksX6_mark_0 0 rfl rfl)
theorem dX6_mark_1 : decode cX6_mark 1 = .ok (.invokespecial 38, 3) := dk_183 0 38 (dk_at dksX6_mark_0 1 rfl rfl)
theorem dX6_mark_4 : decode cX6_mark 4 = .ok (.ifCond .le 10, 3) := dk_158 0 10 (dk_at dksX6_mark_0 4 rfl rfl)
theorem dX6_mark_7 : decode cX6_mark 7 = .ok (.aload_n 0, 1) := dk_42 (dk_at dksX6_mark_0 7 rfl rfl)
theorem dX6_mark_8 : decode cX6_mark 8 = .ok (.invokevirtual 35, 3) := dk_182 0 35 (dk_at dksX6_mark_0 8 rfl rfl)
theorem dX6_mark_11 : decode cX6_mark 11 = .ok (.goto 5, 3) := dk_167 0 5 (dk_at dksX6_mark_0 11 rfl rfl)
theorem dX6_mark_14 : decode cX6_mark 14 = .ok (.bipush (-9), 2) := dk_16 247 (dk_at dksX6_mark_0 14 rfl rfl)
theorem dX6_mark_16 : decode cX6_mark 16 = .ok (.ireturn, 1) := dk_172 (dk_at dksX6_mark_0 16 rfl rfl)
theorem q108 : (Jvm.Cond.initialized "NeitherBare$Half") ∈ lw_all := lw_g (lw_at lw_m1 17 rfl) rfl
theorem q144 : (Jvm.Cond.fieldLinkNest "NeitherBare$Half" (19 : Nat) "NeitherBare" "now" "[I" "NeitherBare") ∈ lw_tbl := lw_at lw_m1 53 rfl
theorem q456 : (Jvm.Cond.fieldLink "NeitherBare$Half" (23 : Nat) "NeitherBare$Half" "trait" "I") ∈ lw_all := lw_g (lw_at lw_m2 125 rfl) rfl
theorem q457 : (Jvm.Cond.sameField "NeitherBare$Half" "NeitherBare$Clause" "trait" "I") ∈ lw_all := lw_g (lw_at lw_m2 126 rfl) rfl
theorem q513 : (Jvm.Cond.instantiable "NeitherBare$Half" (4 : Nat)) ∈ lw_all := lw_g (lw_at lw_m2 182 rfl) rfl
theorem q515 : (Jvm.Cond.instanceMethod ({ cls := "NeitherBare$Half", name := "<init>", desc := "(LNeitherBare;I)V" } : Jvm.MethodName)) ∈ lw_all := lw_g (lw_at lw_m2 184 rfl) rfl
theorem q516 : (Jvm.Cond.code ({ cls := "NeitherBare$Half", name := "<init>", desc := "(LNeitherBare;I)V" } : Jvm.MethodName) prog_5_method_1_code (3 : Nat) (Option.none : Option Jvm.ClassFile.FieldType)) ∈ lw_all := lw_g (lw_at lw_m2 185 rfl) rfl
theorem q517 : (Jvm.Cond.methodLink "NeitherBare$Half" (9 : Nat) ({ cls := "NeitherBare$Neither", name := "<init>", desc := "(LNeitherBare;I)V" } : Jvm.MethodName)) ∈ lw_all := lw_g (lw_at lw_m2 186 rfl) rfl
theorem q518 : (Jvm.Cond.fieldLink "NeitherBare$Half" (3 : Nat) "NeitherBare$Half" "this$0" "LNeitherBare;") ∈ lw_all := lw_g (lw_at lw_m2 187 rfl) rfl
theorem q519 : (Jvm.Cond.laysFinal "NeitherBare$Half" "NeitherBare$Half" "this$0" "LNeitherBare;") ∈ lw_all := lw_g (lw_at lw_m2 188 rfl) rfl
theorem q520 : (Jvm.Cond.soleField "NeitherBare$Half" "this$0") ∈ lw_all := lw_g (lw_at lw_m2 189 rfl) rfl
theorem q521 : (Jvm.Cond.laysFinal "NeitherBare$Half" "NeitherBare$Neither" "this$0" "LNeitherBare;") ∈ lw_all := lw_g (lw_at lw_m2 190 rfl) rfl
theorem q522 : (Jvm.Cond.laysFinal "NeitherBare$Half" "NeitherBare$Clause" "trait" "I") ∈ lw_all := lw_g (lw_at lw_m2 191 rfl) rfl
theorem q523 : (Jvm.Cond.laysFinal "NeitherBare$Half" "NeitherBare$Clause" "this$0" "LNeitherBare;") ∈ lw_all := lw_g (lw_at lw_m2 192 rfl) rfl
theorem q524 : (Jvm.Cond.superclass "NeitherBare$Half" "NeitherBare$Neither") ∈ lw_all := lw_g (lw_at lw_m2 193 rfl) rfl
theorem q571 : (Jvm.Cond.selects "NeitherBare$Half" ({ cls := "NeitherBare$Clause", name := "kind", desc := "()I" } : Jvm.MethodName) ({ cls := "NeitherBare$Half", name := "kind", desc := "()I" } : Jvm.MethodName)) ∈ lw_all := lw_g (lw_at lw_m3 0 rfl) rfl
theorem q572 : (Jvm.Cond.instanceMethod ({ cls := "NeitherBare$Half", name := "kind", desc := "()I" } : Jvm.MethodName)) ∈ lw_all := lw_g (lw_at lw_m3 1 rfl) rfl
theorem q573 : (Jvm.Cond.code ({ cls := "NeitherBare$Half", name := "kind", desc := "()I" } : Jvm.MethodName) prog_5_method_2_code (1 : Nat) (Option.some Jvm.ClassFile.FieldType.int)) ∈ lw_all := lw_g (lw_at lw_m3 2 rfl) rfl
theorem q574 : (Jvm.Cond.methodLink "NeitherBare$Half" (15 : Nat) ({ cls := "NeitherBare$Neither", name := "kind", desc := "()I" } : Jvm.MethodName)) ∈ lw_all := lw_g (lw_at lw_m3 3 rfl) rfl
theorem q602 : (Jvm.Cond.castable "NeitherBare$Half" "NeitherBare$Says") ∈ lw_tbl := lw_at lw_m3 31 rfl
theorem q603 : (Jvm.Cond.unhidden "NeitherBare$Half" "other" "()I") ∈ lw_tbl := lw_at lw_m3 32 rfl
theorem q660 : (Jvm.Cond.selects "NeitherBare$Half" ({ cls := "NeitherBare$Says", name := "holds", desc := "(I)Z" } : Jvm.MethodName) ({ cls := "NeitherBare$Half", name := "holds", desc := "(I)Z" } : Jvm.MethodName)) ∈ lw_all := lw_g (lw_at lw_m3 89 rfl) rfl
theorem q661 : (Jvm.Cond.unhidden "NeitherBare$Half" "holds" "(I)Z") ∈ lw_tbl := lw_at lw_m3 90 rfl
theorem q662 : (Jvm.Cond.instanceMethod ({ cls := "NeitherBare$Half", name := "holds", desc := "(I)Z" } : Jvm.MethodName)) ∈ lw_all := lw_g (lw_at lw_m3 91 rfl) rfl
theorem q663 : (Jvm.Cond.publicMethod ({ cls := "NeitherBare$Half", name := "holds", desc := "(I)Z" } : Jvm.MethodName)) ∈ lw_tbl := lw_at lw_m3 92 rfl
theorem q664 : (Jvm.Cond.code ({ cls := "NeitherBare$Half", name := "holds", desc := "(I)Z" } : Jvm.MethodName) prog_5_method_4_code (2 : Nat) (Option.some Jvm.ClassFile.FieldType.boolean)) ∈ lw_all := lw_g (lw_at lw_m3 93 rfl) rfl
theorem q665 : (Jvm.Cond.methodLink "NeitherBare$Half" (27 : Nat) ({ cls := "NeitherBare$Neither", name := "holds", desc := "(I)Z" } : Jvm.MethodName)) ∈ lw_all := lw_g (lw_at lw_m3 94 rfl) rfl
theorem q670 : (Jvm.Cond.methodLinkNest "NeitherBare$Half" (31 : Nat) ({ cls := "NeitherBare", name := "valueOf", desc := "(II)I" } : Jvm.MethodName) "NeitherBare") ∈ lw_tbl := lw_at lw_m3 99 rfl
theorem q671 : (Jvm.Cond.methodLink "NeitherBare$Half" (35 : Nat) ({ cls := "NeitherBare$Half", name := "middle", desc := "()I" } : Jvm.MethodName)) ∈ lw_all := lw_g (lw_at lw_m3 100 rfl) rfl
theorem q672 : (Jvm.Cond.privateMethod ({ cls := "NeitherBare$Half", name := "middle", desc := "()I" } : Jvm.MethodName)) ∈ lw_tbl := lw_at lw_m3 101 rfl
theorem q673 : (Jvm.Cond.instanceMethod ({ cls := "NeitherBare$Half", name := "middle", desc := "()I" } : Jvm.MethodName)) ∈ lw_all := lw_g (lw_at lw_m3 102 rfl) rfl
theorem q674 : (Jvm.Cond.code ({ cls := "NeitherBare$Half", name := "middle", desc := "()I" } : Jvm.MethodName) prog_5_method_3_code (1 : Nat) (Option.some Jvm.ClassFile.FieldType.int)) ∈ lw_all := lw_g (lw_at lw_m3 103 rfl) rfl
theorem q709 : (Jvm.Cond.instanceMethod ({ cls := "NeitherBare$Half", name := "asNeither", desc := "()I" } : Jvm.MethodName)) ∈ lw_all := lw_g (lw_at lw_m3 138 rfl) rfl
theorem q710 : (Jvm.Cond.selects "NeitherBare$Half" ({ cls := "NeitherBare$Half", name := "asNeither", desc := "()I" } : Jvm.MethodName) ({ cls := "NeitherBare$Half", name := "asNeither", desc := "()I" } : Jvm.MethodName)) ∈ lw_all := lw_g (lw_at lw_m3 139 rfl) rfl
theorem q711 : (Jvm.Cond.code ({ cls := "NeitherBare$Half", name := "asNeither", desc := "()I" } : Jvm.MethodName) prog_5_method_5_code (1 : Nat) (Option.some Jvm.ClassFile.FieldType.int)) ∈ lw_all := lw_g (lw_at lw_m3 140 rfl) rfl
theorem q712 : (Jvm.Cond.methodLink "NeitherBare$Half" (38 : Nat) ({ cls := "NeitherBare$Neither", name := "mark", desc := "()I" } : Jvm.MethodName)) ∈ lw_all := lw_g (lw_at lw_m3 141 rfl) rfl
theorem q716 : (Jvm.Cond.instanceMethod ({ cls := "NeitherBare$Half", name := "mark", desc := "()I" } : Jvm.MethodName)) ∈ lw_all := lw_g (lw_at lw_m3 145 rfl) rfl
theorem q717 : (Jvm.Cond.code ({ cls := "NeitherBare$Half", name := "mark", desc := "()I" } : Jvm.MethodName) prog_5_method_6_code (1 : Nat) (Option.some Jvm.ClassFile.FieldType.int)) ∈ lw_all := lw_g (lw_at lw_m3 146 rfl) rfl
theorem q1544 : (Jvm.Cond.selects "NeitherBare$Half" ({ cls := "NeitherBare$Neither", name := "mark", desc := "()I" } : Jvm.MethodName) ({ cls := "NeitherBare$Half", name := "mark", desc := "()I" } : Jvm.MethodName)) ∈ lw_all := lw_g (lw_at lw_m7 13 rfl) rfl
theorem q1549 : (Jvm.Cond.selects "NeitherBare$Half" ({ cls := "NeitherBare$Half", name := "mark", desc := "()I" } : Jvm.MethodName) ({ cls := "NeitherBare$Half", name := "mark", desc := "()I" } : Jvm.MethodName)) ∈ lw_all := lw_g (lw_at lw_m7 18 rfl) rfl
theorem q1552 : (Jvm.Cond.castable "NeitherBare$Half" "NeitherBare$Neither") ∈ lw_tbl := lw_at lw_m7 21 rfl
theorem q1557 : (Jvm.Cond.castable "NeitherBare$Half" "NeitherBare$Clause") ∈ lw_tbl := lw_at lw_m7 26 rfl
theorem in_X6 : ∀ w ∈ wsX60, w ∈ lw_all := lw_in wsX60 [522, 523, 521, 519] (by decide +kernel) (by decide +kernel)

/-! NeitherBare$But -/
set_option maxRecDepth 100000
def RX7 : String := "NeitherBare$But"
def TX7 : u_T := fun k => match k with
  | 0 => ("NeitherBare$Clause", "trait", "I", true)
  | 1 => ("NeitherBare$Clause", "this$0", "LNeitherBare;", true)
  | 2 => ("NeitherBare$Both", "second", "I", true)
  | 3 => ("NeitherBare$Both", "this$0", "LNeitherBare;", true)
  | _ => ("NeitherBare$But", "this$0", "LNeitherBare;", true)
def tyX7 : Nat → FieldType := fun k => match k with
  | 0 => .int
  | 1 => .object "NeitherBare"
  | 2 => .int
  | 3 => .object "NeitherBare"
  | _ => .object "NeitherBare"
abbrev wsX70 : List Cond := u_ws RX7 TX7 5
-- two fields of one name: no nmX7
theorem tyX7_ok : ∀ k, k < 5 → parseFieldDescriptor (TX7 k).2.2.1 = some (tyX7 k) := by decide +kernel
abbrev cX7_init : ByteArray := prog_3_method_1_code
def yX7_init : MethodName := ⟨RX7, "<init>", "(LNeitherBare;II)V"⟩
def dkwX7_init_0 : List UInt8 := [42, 43, 181, 0, 1, 42, 43, 28, 29, 183, 0, 7, 177]
abbrev dktX7_init_0 : List UInt8 := dkwX7_init_0 ++ []
theorem dksX7_init_0 : cX7_init.data.toList.drop 0 = dktX7_init_0 := by decide +kernel
theorem dX7_init_0 : decode cX7_init 0 = .ok (.aload_n 0, 1) := dk_42 (dk_at dksX7_init_0 0 rfl rfl)
theorem dX7_init_1 : decode cX7_init 1 = .ok (.aload_n 1, 1) := dk_43 (dk_at dksX7_init_0 1 rfl rfl)
theorem dX7_init_2 : decode cX7_init 2 = .ok (.putfield 1, 3) := dk_181 0 1 (dk_at dksX7_init_0 2 rfl rfl)
theorem dX7_init_5 : decode cX7_init 5 = .ok (.aload_n 0, 1) := dk_42 (dk_at dksX7_init_0 5 rfl rfl)
theorem dX7_init_6 : decode cX7_init 6 = .ok (.aload_n 1, 1) := dk_43 (dk_at dksX7_init_0 6 rfl rfl)
theorem dX7_init_7 : decode cX7_init 7 = .ok (.iload_n 2, 1) := dk_28 (dk_at dksX7_init_0 7 rfl rfl)
theorem dX7_init_8 : decode cX7_init 8 = .ok (.iload_n 3, 1) := dk_29 (dk_at dksX7_init_0 8 rfl rfl)
theorem dX7_init_9 : decode cX7_init 9 = .ok (.invokespecial 7, 3) := dk_183 0 7 (dk_at dksX7_init_0 9 rfl rfl)
theorem dX7_init_12 : decode cX7_init 12 = .ok (.return_, 1) := dk_177 (dk_at dksX7_init_0 12 rfl rfl)
abbrev cX7_kind : ByteArray := prog_3_method_2_code
def yX7_kind : MethodName := ⟨RX7, "kind", "()I"⟩
def dkwX7_kind_0 : List UInt8 := [42, 183, 0, 13, 6, 96, 172]
abbrev dktX7_kind_0 : List UInt8 := dkwX7_kind_0 ++ []
theorem dksX7_kind_0 : cX7_kind.data.toList.drop 0 = dktX7_kind_0 := by decide +kernel
theorem dX7_kind_0 : decode cX7_kind 0 = .ok (.aload_n 0, 1) := dk_42 (dk_at dksX7_kind_0 0 rfl rfl)
theorem dX7_kind_1 : decode cX7_kind 1 = .ok (.invokespecial 13, 3) := dk_183 0 13 (dk_at dksX7_kind_0 1 rfl rfl)
theorem dX7_kind_4 : decode cX7_kind 4 = .ok (.iconst 3, 1) := dk_6 (dk_at dksX7_kind_0 4 rfl rfl)
theorem dX7_kind_5 : decode cX7_kind 5 = .ok (.iadd, 1) := dk_96 (dk_at dksX7_kind_0 5 rfl rfl)
theorem dX7_kind_6 : decode cX7_kind 6 = .ok (.ireturn, 1) := dk_172 (dk_at dksX7_kind_0 6 rfl rfl)
abbrev cX7_holds : ByteArray := prog_3_method_3_code
def yX7_holds : MethodName := ⟨RX7, "holds", "(I)Z"⟩
def dkwX7_holds_1 : List UInt8 := [182, 0, 30, 153, 0, 7, 4, 167, 0, 4, 3, 172]
abbrev dktX7_holds_1 : List UInt8 := dkwX7_holds_1 ++ []
def dkwX7_holds_0 : List UInt8 := [42, 180, 0, 1, 27, 42, 180, 0, 17, 182, 0, 21, 153, 0, 22, 42, 180, 0, 1, 27, 42, 180, 0, 27]
abbrev dktX7_holds_0 : List UInt8 := dkwX7_holds_0 ++ dktX7_holds_1
theorem dksX7_holds_0 : cX7_holds.data.toList.drop 0 = dktX7_holds_0 := by decide +kernel
theorem dksX7_holds_1 : cX7_holds.data.toList.drop 24 = dktX7_holds_1 := dk_seg dksX7_holds_0 24 rfl rfl
theorem dX7_holds_0 : decode cX7_holds 0 = .ok (.aload_n 0, 1) := dk_42 (dk_at dksX7_holds_0 0 rfl rfl)
theorem dX7_holds_1 : decode cX7_holds 1 = .ok (.getfield 1, 3) := dk_180 0 1 (dk_at dksX7_holds_0 1 rfl rfl)
theorem dX7_holds_4 : decode cX7_holds 4 = .ok (.iload_n 1, 1) := dk_27 (dk_at dksX7_holds_0 4 rfl rfl)
theorem dX7_holds_5 : decode cX7_holds 5 = .ok (.aload_n 0, 1) := dk_42 (dk_at dksX7_holds_0 5 rfl rfl)
theorem dX7_holds_6 : decode cX7_holds 6 = .ok (.getfield 17, 3) := dk_180 0 17 (dk_at dksX7_holds_0 6 rfl rfl)
theorem dX7_holds_9 : decode cX7_holds 9 = .ok (.invokevirtual 21, 3) := dk_182 0 21 (dk_at dksX7_holds_0 9 rfl rfl)
theorem dX7_holds_12 : decode cX7_holds 12 = .ok (.ifCond .eq 22, 3) := dk_153 0 22 (dk_at dksX7_holds_0 12 rfl rfl)
theorem dX7_holds_15 : decode cX7_holds 15 = .ok (.aload_n 0, 1) := dk_42 (dk_at dksX7_holds_0 15 rfl rfl)
theorem dX7_holds_16 : decode cX7_holds 16 = .ok (.getfield 1, 3) := dk_180 0 1 (dk_at dksX7_holds_0 16 rfl rfl)
theorem dX7_holds_19 : decode cX7_holds 19 = .ok (.iload_n 1, 1) := dk_27 (dk_at dksX7_holds_0 19 rfl rfl)
theorem dX7_holds_20 : decode cX7_holds 20 = .ok (.aload_n 0, 1) := dk_42 (dk_at dksX7_holds_0 20 rfl rfl)
theorem dX7_holds_21 : decode cX7_holds 21 = .ok (.getfield 27, 3) := dk_180 0 27 (dk_at dksX7_holds_0 21 rfl rfl)
theorem dX7_holds_24 : decode cX7_holds 24 = .ok (.invokevirtual 30, 3) := dk_182 0 30 (dk_at dksX7_holds_1 0 rfl rfl)
theorem dX7_holds_27 : decode cX7_holds 27 = .ok (.ifCond .eq 7, 3) := dk_153 0 7 (dk_at dksX7_holds_1 3 rfl rfl)
theorem dX7_holds_30 : decode cX7_holds 30 = .ok (.iconst 1, 1) := dk_4 (dk_at dksX7_holds_1 6 rfl rfl)
theorem dX7_holds_31 : decode cX7_holds 31 = .ok (.goto 4, 3) := dk_167 0 4 (dk_at dksX7_holds_1 7 rfl rfl)
theorem dX7_holds_34 : decode cX7_holds 34 = .ok (.iconst 0, 1) := dk_3 (dk_at dksX7_holds_1 10 rfl rfl)
theorem dX7_holds_35 : decode cX7_holds 35 = .ok (.ireturn, 1) := dk_172 (dk_at dksX7_holds_1 11 rfl rfl)
abbrev cX7_asBoth : ByteArray := prog_3_method_4_code
def yX7_asBoth : MethodName := ⟨RX7, "asBoth", "()I"⟩
theorem dX7_asBoth_0 : decode cX7_asBoth 0 = .ok (.aload_n 0, 1) := by decide +kernel
theorem dX7_asBoth_1 : decode cX7_asBoth 1 = .ok (.invokespecial 33, 3) := by decide +kernel
theorem dX7_asBoth_4 : decode cX7_asBoth 4 = .ok (.ireturn, 1) := by decide +kernel
abbrev cX7_mark : ByteArray := prog_3_method_5_code
def yX7_mark : MethodName := ⟨RX7, "mark", "()I"⟩
def dkwX7_mark_1 : List UInt8 := [180, 0, 27, 182, 0, 30, 153, 0, 7, 4, 167, 0, 4, 3, 96, 60, 132, 2, 1, 167, 255, 219, 27, 172]
abbrev dktX7_mark_1 : List UInt8 := dkwX7_mark_1 ++ []
def dkwX7_mark_0 : List UInt8 := [3, 60, 3, 61, 28, 42, 180, 0, 1, 182, 0, 36, 162, 0, 32, 27, 42, 180, 0, 1, 28, 42]
abbrev dktX7_mark_0 : List UInt8 := dkwX7_mark_0 ++ dktX7_mark_1
theorem dksX7_mark_0 : cX7_mark.data.toList.drop 0 = dktX7_mark_0 := by decide +kernel
theorem dksX7_mark_1 : cX7_mark.data.toList.drop 22 = dktX7_mark_1 := dk_seg dksX7_mark_0 22 rfl rfl
theorem dX7_mark_0 : decode cX7_mark 0 = .ok (.iconst 0, 1) := dk_3 (dk_at dksX7_mark_0 0 rfl rfl)
theorem dX7_mark_1 : decode cX7_mark 1 = .ok (.istore_n 1, 1) := dk_60 (dk_at dksX7_mark_0 1 rfl rfl)
theorem dX7_mark_2 : decode cX7_mark 2 = .ok (.iconst 0, 1) := dk_3 (dk_at dksX7_mark_0 2 rfl rfl)
theorem dX7_mark_3 : decode cX7_mark 3 = .ok (.istore_n 2, 1) := dk_61 (dk_at dksX7_mark_0 3 rfl rfl)
theorem dX7_mark_4 : decode cX7_mark 4 = .ok (.iload_n 2, 1) := dk_28 (dk_at dksX7_mark_0 4 rfl rfl)
theorem dX7_mark_5 : decode cX7_mark 5 = .ok (.aload_n 0, 1) := dk_42 (dk_at dksX7_mark_0 5 rfl rfl)
theorem dX7_mark_6 : decode cX7_mark 6 = .ok (.getfield 1, 3) := dk_180 0 1 (dk_at dksX7_mark_0 6 rfl rfl)
theorem dX7_mark_9 : decode cX7_mark 9 = .ok (.invokevirtual 36, 3) := dk_182 0 36 (dk_at dksX7_mark_0 9 rfl rfl)
theorem dX7_mark_12 : decode cX7_mark 12 = .ok (.if_icmp .ge 32, 3) := dk_162 0 32 (dk_at dksX7_mark_0 12 rfl rfl)
theorem dX7_mark_15 : decode cX7_mark 15 = .ok (.iload_n 1, 1) := dk_27 (dk_at dksX7_mark_0 15 rfl rfl)
theorem dX7_mark_16 : decode cX7_mark 16 = .ok (.aload_n 0, 1) := dk_42 (dk_at dksX7_mark_0 16 rfl rfl)
theorem dX7_mark_17 : decode cX7_mark 17 = .ok (.getfield 1, 3) := dk_180 0 1 (dk_at dksX7_mark_0 17 rfl rfl)
theorem dX7_mark_20 : decode cX7_mark 20 = .ok (.iload_n 2, 1) := dk_28 (dk_at dksX7_mark_0 20 rfl rfl)
theorem dX7_mark_21 : decode cX7_mark 21 = .ok (.aload_n 0, 1) := dk_42 (dk_at dksX7_mark_0 21 rfl rfl)
theorem dX7_mark_22 : decode cX7_mark 22 = .ok (.getfield 27, 3) := dk_180 0 27 (dk_at dksX7_mark_1 0 rfl rfl)
theorem dX7_mark_25 : decode cX7_mark 25 = .ok (.invokevirtual 30, 3) := dk_182 0 30 (dk_at dksX7_mark_1 3 rfl rfl)
theorem dX7_mark_28 : decode cX7_mark 28 = .ok (.ifCond .eq 7, 3) := dk_153 0 7 (dk_at dksX7_mark_1 6 rfl rfl)
theorem dX7_mark_31 : decode cX7_mark 31 = .ok (.iconst 1, 1) := dk_4 (dk_at dksX7_mark_1 9 rfl rfl)
theorem dX7_mark_32 : decode cX7_mark 32 = .ok (.goto 4, 3) := dk_167 0 4 (dk_at dksX7_mark_1 10 rfl rfl)
theorem dX7_mark_35 : decode cX7_mark 35 = .ok (.iconst 0, 1) := dk_3 (dk_at dksX7_mark_1 13 rfl rfl)
theorem dX7_mark_36 : decode cX7_mark 36 = .ok (.iadd, 1) := dk_96 (dk_at dksX7_mark_1 14 rfl rfl)
theorem dX7_mark_37 : decode cX7_mark 37 = .ok (.istore_n 1, 1) := dk_60 (dk_at dksX7_mark_1 15 rfl rfl)
theorem dX7_mark_38 : decode cX7_mark 38 = .ok (.iinc 2 1, 3) := dk_132 2 1 (dk_at dksX7_mark_1 16 rfl rfl)
theorem dX7_mark_41 : decode cX7_mark 41 = .ok (.goto (-37), 3) := dk_167 255 219 (dk_at dksX7_mark_1 19 rfl rfl)
theorem dX7_mark_44 : decode cX7_mark 44 = .ok (.iload_n 1, 1) := dk_27 (dk_at dksX7_mark_1 22 rfl rfl)
theorem dX7_mark_45 : decode cX7_mark 45 = .ok (.ireturn, 1) := dk_172 (dk_at dksX7_mark_1 23 rfl rfl)
theorem q109 : (Jvm.Cond.initialized "NeitherBare$But") ∈ lw_all := lw_g (lw_at lw_m1 18 rfl) rfl
theorem q454 : (Jvm.Cond.fieldLink "NeitherBare$But" (17 : Nat) "NeitherBare$But" "trait" "I") ∈ lw_all := lw_g (lw_at lw_m2 123 rfl) rfl
theorem q455 : (Jvm.Cond.sameField "NeitherBare$But" "NeitherBare$Clause" "trait" "I") ∈ lw_all := lw_g (lw_at lw_m2 124 rfl) rfl
theorem q490 : (Jvm.Cond.fieldLink "NeitherBare$But" (27 : Nat) "NeitherBare$But" "second" "I") ∈ lw_all := lw_g (lw_at lw_m2 159 rfl) rfl
theorem q491 : (Jvm.Cond.sameField "NeitherBare$But" "NeitherBare$Both" "second" "I") ∈ lw_all := lw_g (lw_at lw_m2 160 rfl) rfl
theorem q526 : (Jvm.Cond.instantiable "NeitherBare$But" (5 : Nat)) ∈ lw_all := lw_g (lw_at lw_m2 195 rfl) rfl
theorem q528 : (Jvm.Cond.instanceMethod ({ cls := "NeitherBare$But", name := "<init>", desc := "(LNeitherBare;II)V" } : Jvm.MethodName)) ∈ lw_all := lw_g (lw_at lw_m2 197 rfl) rfl
theorem q529 : (Jvm.Cond.code ({ cls := "NeitherBare$But", name := "<init>", desc := "(LNeitherBare;II)V" } : Jvm.MethodName) prog_3_method_1_code (4 : Nat) (Option.none : Option Jvm.ClassFile.FieldType)) ∈ lw_all := lw_g (lw_at lw_m2 198 rfl) rfl
theorem q530 : (Jvm.Cond.methodLink "NeitherBare$But" (7 : Nat) ({ cls := "NeitherBare$Both", name := "<init>", desc := "(LNeitherBare;II)V" } : Jvm.MethodName)) ∈ lw_all := lw_g (lw_at lw_m2 199 rfl) rfl
theorem q531 : (Jvm.Cond.fieldLink "NeitherBare$But" (1 : Nat) "NeitherBare$But" "this$0" "LNeitherBare;") ∈ lw_all := lw_g (lw_at lw_m2 200 rfl) rfl
theorem q532 : (Jvm.Cond.laysFinal "NeitherBare$But" "NeitherBare$But" "this$0" "LNeitherBare;") ∈ lw_all := lw_g (lw_at lw_m2 201 rfl) rfl
theorem q533 : (Jvm.Cond.soleField "NeitherBare$But" "this$0") ∈ lw_all := lw_g (lw_at lw_m2 202 rfl) rfl
theorem q534 : (Jvm.Cond.laysFinal "NeitherBare$But" "NeitherBare$Both" "second" "I") ∈ lw_all := lw_g (lw_at lw_m2 203 rfl) rfl
theorem q535 : (Jvm.Cond.laysFinal "NeitherBare$But" "NeitherBare$Both" "this$0" "LNeitherBare;") ∈ lw_all := lw_g (lw_at lw_m2 204 rfl) rfl
theorem q536 : (Jvm.Cond.laysFinal "NeitherBare$But" "NeitherBare$Clause" "trait" "I") ∈ lw_all := lw_g (lw_at lw_m2 205 rfl) rfl
theorem q537 : (Jvm.Cond.laysFinal "NeitherBare$But" "NeitherBare$Clause" "this$0" "LNeitherBare;") ∈ lw_all := lw_g (lw_at lw_m2 206 rfl) rfl
theorem q538 : (Jvm.Cond.superclass "NeitherBare$But" "NeitherBare$Both") ∈ lw_all := lw_g (lw_at lw_m2 207 rfl) rfl
theorem q567 : (Jvm.Cond.selects "NeitherBare$But" ({ cls := "NeitherBare$Clause", name := "kind", desc := "()I" } : Jvm.MethodName) ({ cls := "NeitherBare$But", name := "kind", desc := "()I" } : Jvm.MethodName)) ∈ lw_all := lw_g (lw_at lw_m2 236 rfl) rfl
theorem q568 : (Jvm.Cond.instanceMethod ({ cls := "NeitherBare$But", name := "kind", desc := "()I" } : Jvm.MethodName)) ∈ lw_all := lw_g (lw_at lw_m2 237 rfl) rfl
theorem q569 : (Jvm.Cond.code ({ cls := "NeitherBare$But", name := "kind", desc := "()I" } : Jvm.MethodName) prog_3_method_2_code (1 : Nat) (Option.some Jvm.ClassFile.FieldType.int)) ∈ lw_all := lw_g (lw_at lw_m2 238 rfl) rfl
theorem q570 : (Jvm.Cond.methodLink "NeitherBare$But" (13 : Nat) ({ cls := "NeitherBare$Both", name := "kind", desc := "()I" } : Jvm.MethodName)) ∈ lw_all := lw_g (lw_at lw_m2 239 rfl) rfl
theorem q594 : (Jvm.Cond.castable "NeitherBare$But" "NeitherBare$Says") ∈ lw_tbl := lw_at lw_m3 23 rfl
theorem q595 : (Jvm.Cond.selects "NeitherBare$But" ({ cls := "NeitherBare$Says", name := "other", desc := "()I" } : Jvm.MethodName) ({ cls := "NeitherBare$Both", name := "other", desc := "()I" } : Jvm.MethodName)) ∈ lw_all := lw_g (lw_at lw_m3 24 rfl) rfl
theorem q596 : (Jvm.Cond.unhidden "NeitherBare$But" "other" "()I") ∈ lw_tbl := lw_at lw_m3 25 rfl
theorem q647 : (Jvm.Cond.selects "NeitherBare$But" ({ cls := "NeitherBare$Says", name := "holds", desc := "(I)Z" } : Jvm.MethodName) ({ cls := "NeitherBare$But", name := "holds", desc := "(I)Z" } : Jvm.MethodName)) ∈ lw_all := lw_g (lw_at lw_m3 76 rfl) rfl
theorem q648 : (Jvm.Cond.unhidden "NeitherBare$But" "holds" "(I)Z") ∈ lw_tbl := lw_at lw_m3 77 rfl
theorem q649 : (Jvm.Cond.instanceMethod ({ cls := "NeitherBare$But", name := "holds", desc := "(I)Z" } : Jvm.MethodName)) ∈ lw_all := lw_g (lw_at lw_m3 78 rfl) rfl
theorem q650 : (Jvm.Cond.publicMethod ({ cls := "NeitherBare$But", name := "holds", desc := "(I)Z" } : Jvm.MethodName)) ∈ lw_tbl := lw_at lw_m3 79 rfl
theorem q651 : (Jvm.Cond.code ({ cls := "NeitherBare$But", name := "holds", desc := "(I)Z" } : Jvm.MethodName) prog_3_method_3_code (2 : Nat) (Option.some Jvm.ClassFile.FieldType.boolean)) ∈ lw_all := lw_g (lw_at lw_m3 80 rfl) rfl
theorem q652 : (Jvm.Cond.methodLinkNest "NeitherBare$But" (21 : Nat) ({ cls := "NeitherBare", name := "isMuch", desc := "(II)Z" } : Jvm.MethodName) "NeitherBare") ∈ lw_tbl := lw_at lw_m3 81 rfl
theorem q653 : (Jvm.Cond.methodLinkNest "NeitherBare$But" (30 : Nat) ({ cls := "NeitherBare", name := "isLittle", desc := "(II)Z" } : Jvm.MethodName) "NeitherBare") ∈ lw_tbl := lw_at lw_m3 82 rfl
theorem q719 : (Jvm.Cond.instanceMethod ({ cls := "NeitherBare$But", name := "asBoth", desc := "()I" } : Jvm.MethodName)) ∈ lw_all := lw_g (lw_at lw_m3 148 rfl) rfl
theorem q720 : (Jvm.Cond.selects "NeitherBare$But" ({ cls := "NeitherBare$But", name := "asBoth", desc := "()I" } : Jvm.MethodName) ({ cls := "NeitherBare$But", name := "asBoth", desc := "()I" } : Jvm.MethodName)) ∈ lw_all := lw_g (lw_at lw_m3 149 rfl) rfl
theorem q721 : (Jvm.Cond.code ({ cls := "NeitherBare$But", name := "asBoth", desc := "()I" } : Jvm.MethodName) prog_3_method_4_code (1 : Nat) (Option.some Jvm.ClassFile.FieldType.int)) ∈ lw_all := lw_g (lw_at lw_m3 150 rfl) rfl
theorem q722 : (Jvm.Cond.methodLink "NeitherBare$But" (33 : Nat) ({ cls := "NeitherBare$Both", name := "mark", desc := "()I" } : Jvm.MethodName)) ∈ lw_all := lw_g (lw_at lw_m3 151 rfl) rfl
theorem q729 : (Jvm.Cond.instanceMethod ({ cls := "NeitherBare$But", name := "mark", desc := "()I" } : Jvm.MethodName)) ∈ lw_all := lw_g (lw_at lw_m3 158 rfl) rfl
theorem q730 : (Jvm.Cond.code ({ cls := "NeitherBare$But", name := "mark", desc := "()I" } : Jvm.MethodName) prog_3_method_5_code (3 : Nat) (Option.some Jvm.ClassFile.FieldType.int)) ∈ lw_all := lw_g (lw_at lw_m3 159 rfl) rfl
theorem q731 : (Jvm.Cond.methodLinkNest "NeitherBare$But" (36 : Nat) ({ cls := "NeitherBare", name := "ways", desc := "()I" } : Jvm.MethodName) "NeitherBare") ∈ lw_tbl := lw_at lw_m3 160 rfl
theorem q1548 : (Jvm.Cond.selects "NeitherBare$But" ({ cls := "NeitherBare$Both", name := "mark", desc := "()I" } : Jvm.MethodName) ({ cls := "NeitherBare$But", name := "mark", desc := "()I" } : Jvm.MethodName)) ∈ lw_all := lw_g (lw_at lw_m7 17 rfl) rfl
theorem q1550 : (Jvm.Cond.selects "NeitherBare$But" ({ cls := "NeitherBare$But", name := "mark", desc := "()I" } : Jvm.MethodName) ({ cls := "NeitherBare$But", name := "mark", desc := "()I" } : Jvm.MethodName)) ∈ lw_all := lw_g (lw_at lw_m7 19 rfl) rfl
theorem q1553 : (Jvm.Cond.castable "NeitherBare$But" "NeitherBare$Both") ∈ lw_tbl := lw_at lw_m7 22 rfl
theorem q1558 : (Jvm.Cond.castable "NeitherBare$But" "NeitherBare$Clause") ∈ lw_tbl := lw_at lw_m7 27 rfl
theorem in_X7 : ∀ w ∈ wsX70, w ∈ lw_all := lw_in wsX70 [536, 537, 534, 535, 532] (by decide +kernel) (by decide +kernel)

/-! NeitherBare$Says -/
set_option maxRecDepth 100000
def RX8 : String := "NeitherBare$Says"
abbrev cX8_other : ByteArray := prog_7_method_2_code
def yX8_other : MethodName := ⟨RX8, "other", "()I"⟩
theorem dX8_other_0 : decode cX8_other 0 = .ok (.bipush (-9), 2) := by decide +kernel
theorem dX8_other_2 : decode cX8_other 2 = .ok (.ireturn, 1) := by decide +kernel
theorem q586 : (Jvm.Cond.interfaceMethod "NeitherBare$Says" "NeitherBare$Says" "other" "()I") ∈ lw_tbl := lw_at lw_m3 15 rfl
theorem q587 : (Jvm.Cond.declares ({ cls := "NeitherBare$Says", name := "other", desc := "()I" } : Jvm.MethodName)) ∈ lw_tbl := lw_at lw_m3 16 rfl
theorem q599 : (Jvm.Cond.instanceMethod ({ cls := "NeitherBare$Says", name := "other", desc := "()I" } : Jvm.MethodName)) ∈ lw_all := lw_g (lw_at lw_m3 28 rfl) rfl
theorem q600 : (Jvm.Cond.publicMethod ({ cls := "NeitherBare$Says", name := "other", desc := "()I" } : Jvm.MethodName)) ∈ lw_tbl := lw_at lw_m3 29 rfl
theorem q601 : (Jvm.Cond.code ({ cls := "NeitherBare$Says", name := "other", desc := "()I" } : Jvm.MethodName) prog_7_method_2_code (1 : Nat) (Option.some Jvm.ClassFile.FieldType.int)) ∈ lw_all := lw_g (lw_at lw_m3 30 rfl) rfl
theorem q625 : (Jvm.Cond.interfaceMethod "NeitherBare$Says" "NeitherBare$Says" "holds" "(I)Z") ∈ lw_tbl := lw_at lw_m3 54 rfl
theorem q626 : (Jvm.Cond.declares ({ cls := "NeitherBare$Says", name := "holds", desc := "(I)Z" } : Jvm.MethodName)) ∈ lw_tbl := lw_at lw_m3 55 rfl

theorem q91 : (Jvm.Cond.initialized "NeitherBareLaw") ∈ lw_all := lw_g (lw_at lw_m1 0 rfl) rfl
set_option maxRecDepth 100000
theorem q114 : (Jvm.Cond.methodLink "NeitherBareLaw" (194 : Nat) ({ cls := "NeitherBare", name := "asked", desc := "()I" } : Jvm.MethodName)) ∈ lw_all := lw_g (lw_at lw_m1 23 rfl) rfl
theorem q118 : (Jvm.Cond.classLink "NeitherBareLaw" (7 : Nat) "NeitherBare") ∈ lw_all := lw_g (lw_at lw_m1 27 rfl) rfl
theorem q120 : (Jvm.Cond.methodLink "NeitherBareLaw" (9 : Nat) ({ cls := "NeitherBare", name := "<init>", desc := "()V" } : Jvm.MethodName)) ∈ lw_all := lw_g (lw_at lw_m1 29 rfl) rfl
theorem q208 : (Jvm.Cond.methodLink "NeitherBareLaw" (198 : Nat) ({ cls := "NeitherBare", name := "upper", desc := "()J" } : Jvm.MethodName)) ∈ lw_all := lw_g (lw_at lw_m1 117 rfl) rfl
theorem q212 : (Jvm.Cond.methodLink "NeitherBareLaw" (203 : Nat) ({ cls := "NeitherBare", name := "lower", desc := "()J" } : Jvm.MethodName)) ∈ lw_all := lw_g (lw_at lw_m1 121 rfl) rfl
theorem q216 : (Jvm.Cond.methodLink "NeitherBareLaw" (13 : Nat) ({ cls := "NeitherBare", name := "row", desc := "(II)I" } : Jvm.MethodName)) ∈ lw_all := lw_g (lw_at lw_m1 125 rfl) rfl
theorem q316 : (Jvm.Cond.methodLink "NeitherBareLaw" (18 : Nat) ({ cls := "NeitherBare", name := "lay", desc := "(III)I" } : Jvm.MethodName)) ∈ lw_all := lw_g (lw_at lw_m1 225 rfl) rfl
theorem q368 : (Jvm.Cond.methodLink "NeitherBareLaw" (23 : Nat) ({ cls := "NeitherBare", name := "at", desc := "(II)I" } : Jvm.MethodName)) ∈ lw_all := lw_g (lw_at lw_m2 37 rfl) rfl
theorem q372 : (Jvm.Cond.methodLink "NeitherBareLaw" (27 : Nat) ({ cls := "NeitherBare", name := "tear", desc := "(I)I" } : Jvm.MethodName)) ∈ lw_all := lw_g (lw_at lw_m2 41 rfl) rfl
theorem q376 : (Jvm.Cond.methodLink "NeitherBareLaw" (32 : Nat) ({ cls := "NeitherBare", name := "copy", desc := "(IIIII)I" } : Jvm.MethodName)) ∈ lw_all := lw_g (lw_at lw_m2 45 rfl) rfl
theorem q383 : (Jvm.Cond.methodLink "NeitherBareLaw" (37 : Nat) ({ cls := "NeitherBare", name := "mean", desc := "(I)I" } : Jvm.MethodName)) ∈ lw_all := lw_g (lw_at lw_m2 52 rfl) rfl
theorem q401 : (Jvm.Cond.methodLink "NeitherBareLaw" (41 : Nat) ({ cls := "NeitherBare", name := "text", desc := "(II)I" } : Jvm.MethodName)) ∈ lw_all := lw_g (lw_at lw_m2 70 rfl) rfl
theorem q408 : (Jvm.Cond.methodLink "NeitherBareLaw" (45 : Nat) ({ cls := "NeitherBare", name := "put", desc := "(III)I" } : Jvm.MethodName)) ∈ lw_all := lw_g (lw_at lw_m2 77 rfl) rfl
theorem q412 : (Jvm.Cond.methodLink "NeitherBareLaw" (49 : Nat) ({ cls := "NeitherBare", name := "fault", desc := "(I)I" } : Jvm.MethodName)) ∈ lw_all := lw_g (lw_at lw_m2 81 rfl) rfl
theorem q440 : (Jvm.Cond.methodLink "NeitherBareLaw" (53 : Nat) ({ cls := "NeitherBare", name := "court", desc := "(I)I" } : Jvm.MethodName)) ∈ lw_all := lw_g (lw_at lw_m2 109 rfl) rfl
theorem q539 : (Jvm.Cond.methodLink "NeitherBareLaw" (57 : Nat) ({ cls := "NeitherBare", name := "thing", desc := "(II)I" } : Jvm.MethodName)) ∈ lw_all := lw_g (lw_at lw_m2 208 rfl) rfl
theorem q547 : (Jvm.Cond.methodLink "NeitherBareLaw" (61 : Nat) ({ cls := "NeitherBare", name := "clause", desc := "(II)I" } : Jvm.MethodName)) ∈ lw_all := lw_g (lw_at lw_m2 216 rfl) rfl
theorem q690 : (Jvm.Cond.methodLink "NeitherBareLaw" (65 : Nat) ({ cls := "NeitherBare", name := "mark", desc := "(II)I" } : Jvm.MethodName)) ∈ lw_all := lw_g (lw_at lw_m3 119 rfl) rfl
theorem q739 : (Jvm.Cond.methodLink "NeitherBareLaw" (69 : Nat) ({ cls := "NeitherBare", name := "border", desc := "(II)I" } : Jvm.MethodName)) ∈ lw_all := lw_g (lw_at lw_m3 168 rfl) rfl
theorem q746 : (Jvm.Cond.methodLink "NeitherBareLaw" (73 : Nat) ({ cls := "NeitherBare", name := "strike", desc := "(II)I" } : Jvm.MethodName)) ∈ lw_all := lw_g (lw_at lw_m3 175 rfl) rfl
theorem q764 : (Jvm.Cond.methodLink "NeitherBareLaw" (77 : Nat) ({ cls := "NeitherBare", name := "move", desc := "(III)I" } : Jvm.MethodName)) ∈ lw_all := lw_g (lw_at lw_m3 193 rfl) rfl
theorem q775 : (Jvm.Cond.methodLink "NeitherBareLaw" (81 : Nat) ({ cls := "NeitherBare", name := "undo", desc := "(I)I" } : Jvm.MethodName)) ∈ lw_all := lw_g (lw_at lw_m3 204 rfl) rfl
theorem q779 : (Jvm.Cond.methodLink "NeitherBareLaw" (85 : Nat) ({ cls := "NeitherBare", name := "keep", desc := "(I)I" } : Jvm.MethodName)) ∈ lw_all := lw_g (lw_at lw_m3 208 rfl) rfl
theorem q783 : (Jvm.Cond.methodLink "NeitherBareLaw" (89 : Nat) ({ cls := "NeitherBare", name := "on", desc := "(I)I" } : Jvm.MethodName)) ∈ lw_all := lw_g (lw_at lw_m3 212 rfl) rfl
theorem q787 : (Jvm.Cond.methodLink "NeitherBareLaw" (93 : Nat) ({ cls := "NeitherBare", name := "value", desc := "(II)I" } : Jvm.MethodName)) ∈ lw_all := lw_g (lw_at lw_m3 216 rfl) rfl
theorem q795 : (Jvm.Cond.methodLink "NeitherBareLaw" (97 : Nat) ({ cls := "NeitherBare", name := "cost", desc := "(I)I" } : Jvm.MethodName)) ∈ lw_all := lw_g (lw_at lw_m3 224 rfl) rfl
theorem q803 : (Jvm.Cond.methodLink "NeitherBareLaw" (101 : Nat) ({ cls := "NeitherBare", name := "holds", desc := "(I)I" } : Jvm.MethodName)) ∈ lw_all := lw_g (lw_at lw_m3 232 rfl) rfl
theorem q815 : (Jvm.Cond.methodLink "NeitherBareLaw" (105 : Nat) ({ cls := "NeitherBare", name := "good", desc := "()I" } : Jvm.MethodName)) ∈ lw_all := lw_g (lw_at lw_m4 4 rfl) rfl
theorem q843 : (Jvm.Cond.methodLink "NeitherBareLaw" (110 : Nat) ({ cls := "NeitherBare", name := "cheapest", desc := "()I" } : Jvm.MethodName)) ∈ lw_all := lw_g (lw_at lw_m4 32 rfl) rfl
theorem q855 : (Jvm.Cond.methodLink "NeitherBareLaw" (114 : Nat) ({ cls := "NeitherBare", name := "fewest", desc := "()I" } : Jvm.MethodName)) ∈ lw_all := lw_g (lw_at lw_m4 44 rfl) rfl
theorem q859 : (Jvm.Cond.methodLink "NeitherBareLaw" (118 : Nat) ({ cls := "NeitherBare", name := "nearest", desc := "()I" } : Jvm.MethodName)) ∈ lw_all := lw_g (lw_at lw_m4 48 rfl) rfl
theorem q864 : (Jvm.Cond.methodLink "NeitherBareLaw" (122 : Nat) ({ cls := "NeitherBare", name := "tight", desc := "(I)I" } : Jvm.MethodName)) ∈ lw_all := lw_g (lw_at lw_m4 53 rfl) rfl
theorem q868 : (Jvm.Cond.methodLink "NeitherBareLaw" (126 : Nat) ({ cls := "NeitherBare", name := "clash", desc := "(I)I" } : Jvm.MethodName)) ∈ lw_all := lw_g (lw_at lw_m4 57 rfl) rfl
theorem q872 : (Jvm.Cond.methodLink "NeitherBareLaw" (130 : Nat) ({ cls := "NeitherBare", name := "two", desc := "()I" } : Jvm.MethodName)) ∈ lw_all := lw_g (lw_at lw_m4 61 rfl) rfl
theorem q876 : (Jvm.Cond.methodLink "NeitherBareLaw" (134 : Nat) ({ cls := "NeitherBare", name := "least", desc := "()I" } : Jvm.MethodName)) ∈ lw_all := lw_g (lw_at lw_m4 65 rfl) rfl
theorem q880 : (Jvm.Cond.methodLink "NeitherBareLaw" (138 : Nat) ({ cls := "NeitherBare", name := "relent", desc := "()I" } : Jvm.MethodName)) ∈ lw_all := lw_g (lw_at lw_m4 69 rfl) rfl
theorem q884 : (Jvm.Cond.methodLink "NeitherBareLaw" (142 : Nat) ({ cls := "NeitherBare", name := "game", desc := "(I)I" } : Jvm.MethodName)) ∈ lw_all := lw_g (lw_at lw_m4 73 rfl) rfl
theorem q900 : (Jvm.Cond.methodLink "NeitherBareLaw" (146 : Nat) ({ cls := "NeitherBare", name := "names", desc := "(I)I" } : Jvm.MethodName)) ∈ lw_all := lw_g (lw_at lw_m4 89 rfl) rfl
theorem q904 : (Jvm.Cond.methodLink "NeitherBareLaw" (150 : Nat) ({ cls := "NeitherBare", name := "contradict", desc := "(I)I" } : Jvm.MethodName)) ∈ lw_all := lw_g (lw_at lw_m4 93 rfl) rfl
theorem q915 : (Jvm.Cond.methodLink "NeitherBareLaw" (154 : Nat) ({ cls := "NeitherBare", name := "fix", desc := "(I)I" } : Jvm.MethodName)) ∈ lw_all := lw_g (lw_at lw_m4 104 rfl) rfl
theorem q922 : (Jvm.Cond.methodLink "NeitherBareLaw" (158 : Nat) ({ cls := "NeitherBare", name := "follows", desc := "(III)I" } : Jvm.MethodName)) ∈ lw_all := lw_g (lw_at lw_m4 111 rfl) rfl
theorem q926 : (Jvm.Cond.methodLink "NeitherBareLaw" (162 : Nat) ({ cls := "NeitherBare", name := "borders", desc := "(II)I" } : Jvm.MethodName)) ∈ lw_all := lw_g (lw_at lw_m4 115 rfl) rfl
theorem q930 : (Jvm.Cond.methodLink "NeitherBareLaw" (166 : Nat) ({ cls := "NeitherBare", name := "worth", desc := "(I)I" } : Jvm.MethodName)) ∈ lw_all := lw_g (lw_at lw_m4 119 rfl) rfl
theorem q934 : (Jvm.Cond.methodLink "NeitherBareLaw" (170 : Nat) ({ cls := "NeitherBare", name := "falls", desc := "(III)I" } : Jvm.MethodName)) ∈ lw_all := lw_g (lw_at lw_m4 123 rfl) rfl
theorem q938 : (Jvm.Cond.methodLink "NeitherBareLaw" (174 : Nat) ({ cls := "NeitherBare", name := "kinds", desc := "(II)I" } : Jvm.MethodName)) ∈ lw_all := lw_g (lw_at lw_m4 127 rfl) rfl
theorem q942 : (Jvm.Cond.methodLink "NeitherBareLaw" (178 : Nat) ({ cls := "NeitherBare", name := "judged", desc := "(II)I" } : Jvm.MethodName)) ∈ lw_all := lw_g (lw_at lw_m4 131 rfl) rfl
theorem q950 : (Jvm.Cond.methodLink "NeitherBareLaw" (182 : Nat) ({ cls := "NeitherBare", name := "odds", desc := "(II)I" } : Jvm.MethodName)) ∈ lw_all := lw_g (lw_at lw_m4 139 rfl) rfl
theorem q959 : (Jvm.Cond.methodLink "NeitherBareLaw" (186 : Nat) ({ cls := "NeitherBare", name := "luck", desc := "()I" } : Jvm.MethodName)) ∈ lw_all := lw_g (lw_at lw_m4 148 rfl) rfl
theorem q963 : (Jvm.Cond.methodLink "NeitherBareLaw" (190 : Nat) ({ cls := "NeitherBare", name := "lots", desc := "(II)I" } : Jvm.MethodName)) ∈ lw_all := lw_g (lw_at lw_m4 152 rfl) rfl
theorem q971 : (Jvm.Cond.methodLink "NeitherBareLaw" (207 : Nat) ({ cls := "NeitherBare", name := "count", desc := "(I)I" } : Jvm.MethodName)) ∈ lw_all := lw_g (lw_at lw_m4 160 rfl) rfl
theorem q979 : (Jvm.Cond.methodLink "NeitherBareLaw" (211 : Nat) ({ cls := "NeitherBare", name := "finding", desc := "()I" } : Jvm.MethodName)) ∈ lw_all := lw_g (lw_at lw_m4 168 rfl) rfl
theorem q983 : (Jvm.Cond.methodLink "NeitherBareLaw" (215 : Nat) ({ cls := "NeitherBare", name := "findings", desc := "(I)I" } : Jvm.MethodName)) ∈ lw_all := lw_g (lw_at lw_m4 172 rfl) rfl
theorem q987 : (Jvm.Cond.methodLink "NeitherBareLaw" (219 : Nat) ({ cls := "NeitherBare", name := "digest", desc := "()J" } : Jvm.MethodName)) ∈ lw_all := lw_g (lw_at lw_m4 176 rfl) rfl
theorem q1001 : (Jvm.Cond.classLink "NeitherBareLaw" (10 : Nat) "NeitherBareModel") ∈ lw_all := lw_g (lw_at lw_m4 190 rfl) rfl
theorem q1003 : (Jvm.Cond.methodLink "NeitherBareLaw" (12 : Nat) ({ cls := "NeitherBareModel", name := "<init>", desc := "()V" } : Jvm.MethodName)) ∈ lw_all := lw_g (lw_at lw_m4 192 rfl) rfl
theorem q1088 : (Jvm.Cond.methodLink "NeitherBareLaw" (17 : Nat) ({ cls := "NeitherBareModel", name := "row", desc := "(II)I" } : Jvm.MethodName)) ∈ lw_all := lw_g (lw_at lw_m5 37 rfl) rfl
theorem q1107 : (Jvm.Cond.methodLink "NeitherBareLaw" (22 : Nat) ({ cls := "NeitherBareModel", name := "lay", desc := "(III)I" } : Jvm.MethodName)) ∈ lw_all := lw_g (lw_at lw_m5 56 rfl) rfl
theorem q1119 : (Jvm.Cond.methodLink "NeitherBareLaw" (26 : Nat) ({ cls := "NeitherBareModel", name := "at", desc := "(II)I" } : Jvm.MethodName)) ∈ lw_all := lw_g (lw_at lw_m5 68 rfl) rfl
theorem q1123 : (Jvm.Cond.methodLink "NeitherBareLaw" (31 : Nat) ({ cls := "NeitherBareModel", name := "tear", desc := "(I)I" } : Jvm.MethodName)) ∈ lw_all := lw_g (lw_at lw_m5 72 rfl) rfl
theorem q1127 : (Jvm.Cond.methodLink "NeitherBareLaw" (36 : Nat) ({ cls := "NeitherBareModel", name := "copy", desc := "(IIIII)I" } : Jvm.MethodName)) ∈ lw_all := lw_g (lw_at lw_m5 76 rfl) rfl
theorem q1135 : (Jvm.Cond.methodLink "NeitherBareLaw" (40 : Nat) ({ cls := "NeitherBareModel", name := "mean", desc := "(I)I" } : Jvm.MethodName)) ∈ lw_all := lw_g (lw_at lw_m5 84 rfl) rfl
theorem q1139 : (Jvm.Cond.methodLink "NeitherBareLaw" (44 : Nat) ({ cls := "NeitherBareModel", name := "text", desc := "(II)I" } : Jvm.MethodName)) ∈ lw_all := lw_g (lw_at lw_m5 88 rfl) rfl
theorem q1147 : (Jvm.Cond.methodLink "NeitherBareLaw" (48 : Nat) ({ cls := "NeitherBareModel", name := "put", desc := "(III)I" } : Jvm.MethodName)) ∈ lw_all := lw_g (lw_at lw_m5 96 rfl) rfl
theorem q1151 : (Jvm.Cond.methodLink "NeitherBareLaw" (52 : Nat) ({ cls := "NeitherBareModel", name := "fault", desc := "(I)I" } : Jvm.MethodName)) ∈ lw_all := lw_g (lw_at lw_m5 100 rfl) rfl
theorem q1186 : (Jvm.Cond.methodLink "NeitherBareLaw" (56 : Nat) ({ cls := "NeitherBareModel", name := "court", desc := "(I)I" } : Jvm.MethodName)) ∈ lw_all := lw_g (lw_at lw_m5 135 rfl) rfl
theorem q1190 : (Jvm.Cond.methodLink "NeitherBareLaw" (60 : Nat) ({ cls := "NeitherBareModel", name := "thing", desc := "(II)I" } : Jvm.MethodName)) ∈ lw_all := lw_g (lw_at lw_m5 139 rfl) rfl
theorem q1195 : (Jvm.Cond.methodLink "NeitherBareLaw" (64 : Nat) ({ cls := "NeitherBareModel", name := "clause", desc := "(II)I" } : Jvm.MethodName)) ∈ lw_all := lw_g (lw_at lw_m5 144 rfl) rfl
theorem q1250 : (Jvm.Cond.methodLink "NeitherBareLaw" (68 : Nat) ({ cls := "NeitherBareModel", name := "mark", desc := "(II)I" } : Jvm.MethodName)) ∈ lw_all := lw_g (lw_at lw_m5 199 rfl) rfl
theorem q1266 : (Jvm.Cond.methodLink "NeitherBareLaw" (72 : Nat) ({ cls := "NeitherBareModel", name := "border", desc := "(II)I" } : Jvm.MethodName)) ∈ lw_all := lw_g (lw_at lw_m5 215 rfl) rfl
theorem q1273 : (Jvm.Cond.methodLink "NeitherBareLaw" (76 : Nat) ({ cls := "NeitherBareModel", name := "strike", desc := "(II)I" } : Jvm.MethodName)) ∈ lw_all := lw_g (lw_at lw_m5 222 rfl) rfl
theorem q1284 : (Jvm.Cond.methodLink "NeitherBareLaw" (80 : Nat) ({ cls := "NeitherBareModel", name := "move", desc := "(III)I" } : Jvm.MethodName)) ∈ lw_all := lw_g (lw_at lw_m5 233 rfl) rfl
theorem q1295 : (Jvm.Cond.methodLink "NeitherBareLaw" (84 : Nat) ({ cls := "NeitherBareModel", name := "undo", desc := "(I)I" } : Jvm.MethodName)) ∈ lw_all := lw_g (lw_at lw_m6 4 rfl) rfl
theorem q1299 : (Jvm.Cond.methodLink "NeitherBareLaw" (88 : Nat) ({ cls := "NeitherBareModel", name := "keep", desc := "(I)I" } : Jvm.MethodName)) ∈ lw_all := lw_g (lw_at lw_m6 8 rfl) rfl
theorem q1308 : (Jvm.Cond.methodLink "NeitherBareLaw" (92 : Nat) ({ cls := "NeitherBareModel", name := "on", desc := "(I)I" } : Jvm.MethodName)) ∈ lw_all := lw_g (lw_at lw_m6 17 rfl) rfl
theorem q1312 : (Jvm.Cond.methodLink "NeitherBareLaw" (96 : Nat) ({ cls := "NeitherBareModel", name := "value", desc := "(II)I" } : Jvm.MethodName)) ∈ lw_all := lw_g (lw_at lw_m6 21 rfl) rfl
theorem q1320 : (Jvm.Cond.methodLink "NeitherBareLaw" (100 : Nat) ({ cls := "NeitherBareModel", name := "cost", desc := "(I)I" } : Jvm.MethodName)) ∈ lw_all := lw_g (lw_at lw_m6 29 rfl) rfl
theorem q1328 : (Jvm.Cond.methodLink "NeitherBareLaw" (104 : Nat) ({ cls := "NeitherBareModel", name := "holds", desc := "(I)I" } : Jvm.MethodName)) ∈ lw_all := lw_g (lw_at lw_m6 37 rfl) rfl
theorem q1344 : (Jvm.Cond.methodLink "NeitherBareLaw" (109 : Nat) ({ cls := "NeitherBareModel", name := "good", desc := "()I" } : Jvm.MethodName)) ∈ lw_all := lw_g (lw_at lw_m6 53 rfl) rfl
theorem q1352 : (Jvm.Cond.methodLink "NeitherBareLaw" (113 : Nat) ({ cls := "NeitherBareModel", name := "cheapest", desc := "()I" } : Jvm.MethodName)) ∈ lw_all := lw_g (lw_at lw_m6 61 rfl) rfl
theorem q1360 : (Jvm.Cond.methodLink "NeitherBareLaw" (117 : Nat) ({ cls := "NeitherBareModel", name := "fewest", desc := "()I" } : Jvm.MethodName)) ∈ lw_all := lw_g (lw_at lw_m6 69 rfl) rfl
theorem q1364 : (Jvm.Cond.methodLink "NeitherBareLaw" (121 : Nat) ({ cls := "NeitherBareModel", name := "nearest", desc := "()I" } : Jvm.MethodName)) ∈ lw_all := lw_g (lw_at lw_m6 73 rfl) rfl
theorem q1368 : (Jvm.Cond.methodLink "NeitherBareLaw" (125 : Nat) ({ cls := "NeitherBareModel", name := "tight", desc := "(I)I" } : Jvm.MethodName)) ∈ lw_all := lw_g (lw_at lw_m6 77 rfl) rfl
theorem q1372 : (Jvm.Cond.methodLink "NeitherBareLaw" (129 : Nat) ({ cls := "NeitherBareModel", name := "clash", desc := "(I)I" } : Jvm.MethodName)) ∈ lw_all := lw_g (lw_at lw_m6 81 rfl) rfl
theorem q1380 : (Jvm.Cond.methodLink "NeitherBareLaw" (133 : Nat) ({ cls := "NeitherBareModel", name := "two", desc := "()I" } : Jvm.MethodName)) ∈ lw_all := lw_g (lw_at lw_m6 89 rfl) rfl
theorem q1384 : (Jvm.Cond.methodLink "NeitherBareLaw" (137 : Nat) ({ cls := "NeitherBareModel", name := "least", desc := "()I" } : Jvm.MethodName)) ∈ lw_all := lw_g (lw_at lw_m6 93 rfl) rfl
theorem q1388 : (Jvm.Cond.methodLink "NeitherBareLaw" (141 : Nat) ({ cls := "NeitherBareModel", name := "relent", desc := "()I" } : Jvm.MethodName)) ∈ lw_all := lw_g (lw_at lw_m6 97 rfl) rfl
theorem q1392 : (Jvm.Cond.methodLink "NeitherBareLaw" (145 : Nat) ({ cls := "NeitherBareModel", name := "game", desc := "(I)I" } : Jvm.MethodName)) ∈ lw_all := lw_g (lw_at lw_m6 101 rfl) rfl
theorem q1412 : (Jvm.Cond.methodLink "NeitherBareLaw" (149 : Nat) ({ cls := "NeitherBareModel", name := "names", desc := "(I)I" } : Jvm.MethodName)) ∈ lw_all := lw_g (lw_at lw_m6 121 rfl) rfl
theorem q1416 : (Jvm.Cond.methodLink "NeitherBareLaw" (153 : Nat) ({ cls := "NeitherBareModel", name := "contradict", desc := "(I)I" } : Jvm.MethodName)) ∈ lw_all := lw_g (lw_at lw_m6 125 rfl) rfl
theorem q1432 : (Jvm.Cond.methodLink "NeitherBareLaw" (157 : Nat) ({ cls := "NeitherBareModel", name := "fix", desc := "(I)I" } : Jvm.MethodName)) ∈ lw_all := lw_g (lw_at lw_m6 141 rfl) rfl
theorem q1440 : (Jvm.Cond.methodLink "NeitherBareLaw" (161 : Nat) ({ cls := "NeitherBareModel", name := "follows", desc := "(III)I" } : Jvm.MethodName)) ∈ lw_all := lw_g (lw_at lw_m6 149 rfl) rfl
theorem q1444 : (Jvm.Cond.methodLink "NeitherBareLaw" (165 : Nat) ({ cls := "NeitherBareModel", name := "borders", desc := "(II)I" } : Jvm.MethodName)) ∈ lw_all := lw_g (lw_at lw_m6 153 rfl) rfl
theorem q1448 : (Jvm.Cond.methodLink "NeitherBareLaw" (169 : Nat) ({ cls := "NeitherBareModel", name := "worth", desc := "(I)I" } : Jvm.MethodName)) ∈ lw_all := lw_g (lw_at lw_m6 157 rfl) rfl
theorem q1452 : (Jvm.Cond.methodLink "NeitherBareLaw" (173 : Nat) ({ cls := "NeitherBareModel", name := "falls", desc := "(III)I" } : Jvm.MethodName)) ∈ lw_all := lw_g (lw_at lw_m6 161 rfl) rfl
theorem q1456 : (Jvm.Cond.methodLink "NeitherBareLaw" (177 : Nat) ({ cls := "NeitherBareModel", name := "kinds", desc := "(II)I" } : Jvm.MethodName)) ∈ lw_all := lw_g (lw_at lw_m6 165 rfl) rfl
theorem q1461 : (Jvm.Cond.methodLink "NeitherBareLaw" (181 : Nat) ({ cls := "NeitherBareModel", name := "judged", desc := "(II)I" } : Jvm.MethodName)) ∈ lw_all := lw_g (lw_at lw_m6 170 rfl) rfl
theorem q1473 : (Jvm.Cond.methodLink "NeitherBareLaw" (185 : Nat) ({ cls := "NeitherBareModel", name := "odds", desc := "(II)I" } : Jvm.MethodName)) ∈ lw_all := lw_g (lw_at lw_m6 182 rfl) rfl
theorem q1482 : (Jvm.Cond.methodLink "NeitherBareLaw" (189 : Nat) ({ cls := "NeitherBareModel", name := "luck", desc := "()I" } : Jvm.MethodName)) ∈ lw_all := lw_g (lw_at lw_m6 191 rfl) rfl
theorem q1486 : (Jvm.Cond.methodLink "NeitherBareLaw" (193 : Nat) ({ cls := "NeitherBareModel", name := "lots", desc := "(II)I" } : Jvm.MethodName)) ∈ lw_all := lw_g (lw_at lw_m6 195 rfl) rfl
theorem q1495 : (Jvm.Cond.methodLink "NeitherBareLaw" (197 : Nat) ({ cls := "NeitherBareModel", name := "asked", desc := "()I" } : Jvm.MethodName)) ∈ lw_all := lw_g (lw_at lw_m6 204 rfl) rfl
theorem q1499 : (Jvm.Cond.methodLink "NeitherBareLaw" (202 : Nat) ({ cls := "NeitherBareModel", name := "upper", desc := "()J" } : Jvm.MethodName)) ∈ lw_all := lw_g (lw_at lw_m6 208 rfl) rfl
theorem q1503 : (Jvm.Cond.methodLink "NeitherBareLaw" (206 : Nat) ({ cls := "NeitherBareModel", name := "lower", desc := "()J" } : Jvm.MethodName)) ∈ lw_all := lw_g (lw_at lw_m6 212 rfl) rfl
theorem q1507 : (Jvm.Cond.methodLink "NeitherBareLaw" (210 : Nat) ({ cls := "NeitherBareModel", name := "count", desc := "(I)I" } : Jvm.MethodName)) ∈ lw_all := lw_g (lw_at lw_m6 216 rfl) rfl
theorem q1524 : (Jvm.Cond.methodLink "NeitherBareLaw" (214 : Nat) ({ cls := "NeitherBareModel", name := "finding", desc := "()I" } : Jvm.MethodName)) ∈ lw_all := lw_g (lw_at lw_m6 233 rfl) rfl
theorem q1528 : (Jvm.Cond.methodLink "NeitherBareLaw" (218 : Nat) ({ cls := "NeitherBareModel", name := "findings", desc := "(I)I" } : Jvm.MethodName)) ∈ lw_all := lw_g (lw_at lw_m6 237 rfl) rfl
theorem q1532 : (Jvm.Cond.methodLink "NeitherBareLaw" (222 : Nat) ({ cls := "NeitherBareModel", name := "digest", desc := "()J" } : Jvm.MethodName)) ∈ lw_all := lw_g (lw_at lw_m7 1 rfl) rfl
theorem q102 : (Jvm.Cond.initialized "java/lang/System") ∈ lw_all := lw_g (lw_at lw_m1 11 rfl) rfl
set_option maxRecDepth 100000
theorem q381 : (Jvm.Cond.static ({ cls := "java/lang/System", name := "arraycopy", desc := "(Ljava/lang/Object;ILjava/lang/Object;II)V" } : Jvm.MethodName)) ∈ lw_all := lw_g (lw_at lw_m2 50 rfl) rfl
theorem q382 : (Jvm.Cond.native ({ cls := "java/lang/System", name := "arraycopy", desc := "(Ljava/lang/Object;ILjava/lang/Object;II)V" } : Jvm.MethodName)) ∈ lw_all := lw_g (lw_at lw_m2 51 rfl) rfl
theorem q127 : (Jvm.Cond.arrayOver (Jvm.ClassFile.FieldType.array Jvm.ClassFile.FieldType.int)) ∈ lw_tbl := lw_at lw_m1 36 rfl
set_option maxRecDepth 100000
theorem q129 : (Jvm.Cond.arrayOver (Jvm.ClassFile.FieldType.array Jvm.ClassFile.FieldType.byte)) ∈ lw_tbl := lw_at lw_m1 38 rfl
theorem q131 : (Jvm.Cond.arrayOver (Jvm.ClassFile.FieldType.object "NeitherBare$Clause")) ∈ lw_tbl := lw_at lw_m1 40 rfl
theorem q206 : (Jvm.Cond.arrayClass Jvm.ClassFile.FieldType.int) ∈ lw_all := lw_g (lw_at lw_m1 115 rfl) rfl
theorem q207 : (Jvm.Cond.arrayClass Jvm.ClassFile.FieldType.long) ∈ lw_all := lw_g (lw_at lw_m1 116 rfl) rfl
theorem q301 : (Jvm.Cond.arrayClass Jvm.ClassFile.FieldType.byte) ∈ lw_all := lw_g (lw_at lw_m1 210 rfl) rfl
theorem q1087 : (Jvm.Cond.arrayClass Jvm.ClassFile.FieldType.boolean) ∈ lw_all := lw_g (lw_at lw_m5 36 rfl) rfl
