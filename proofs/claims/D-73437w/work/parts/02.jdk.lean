/-! DECODE ROWS BY BYTES: one lemma an opcode; a method's code is cut into short pieces once, and a row reads its own piece alone. -/
set_option maxRecDepth 100000
/-- the code has just these bytes from pc on -/
def DkAt (code : ByteArray) (pc : Nat) (bs : List UInt8) : Prop := ∀ (j : Nat) (b : UInt8), bs[j]? = some b → code.data.toList[pc + j]? = some b
/-- the piece W has the bytes bs from its place j on -/
def dkIn (W : List UInt8) (j : Nat) (bs : List UInt8) : Bool := decide ((W.drop j).take bs.length = bs)
theorem dk_seg {l W T : List UInt8} {o o2 : Nat} (h : l.drop o = W ++ T) (n : Nat) (hn : W.length = n) (ho : o + n = o2) : l.drop o2 = T := by
  subst ho
  rw [← List.drop_drop, h, List.drop_left' hn]
theorem dk_at {code : ByteArray} {W T bs : List UInt8} {o pc : Nat} (h : code.data.toList.drop o = W ++ T) (j : Nat) (hp : o + j = pc) (hw : dkIn W j bs = true) : DkAt code pc bs := by
  subst hp
  intro i b e
  have h1 := of_decide_eq_true hw
  have h2 : i < bs.length := (List.getElem?_eq_some_iff.mp e).1
  have h3 : W[j + i]? = some b := by
    rw [← h1, List.getElem?_take, if_pos h2, List.getElem?_drop] at e
    exact e
  have h4 : j + i < W.length := (List.getElem?_eq_some_iff.mp h3).1
  have h5 : (code.data.toList.drop o)[j + i]? = some b := by
    rw [h, List.getElem?_append_left h4]
    exact h3
  rw [List.getElem?_drop, ← Nat.add_assoc] at h5
  exact h5
theorem dk_u1 {A : ByteArray} {p : Nat} {b : UInt8} (h : A.data.toList[p]? = some b) : (Reader.u1 : Reader DecodeError Nat) A p = .ok (b.toNat, p + 1) := by
  obtain ⟨h1, h2⟩ := List.getElem?_eq_some_iff.mp h
  have h3 : p < A.size := by simpa using h1
  have h4 : A[p]'h3 = b := h2
  have e : (Reader.u1 : Reader DecodeError Nat) A p = (if h : p < A.size then .ok (A[p].toNat, p + 1) else .error (HasTruncated.truncated p)) := by
    show (do if h : p < A.size then do set (p + 1); Pure.pure A[p].toNat else MonadExcept.throw (HasTruncated.truncated p) : Reader DecodeError Nat) A p = _
    by_cases hi : p < A.size
    · rw [dif_pos hi, dif_pos hi]; rfl
    · rw [dif_neg hi, dif_neg hi]; rfl
  rw [e, dif_pos h3, h4]
theorem dk_bind {α β : Type} {r : Reader DecodeError α} {f : α → Reader DecodeError β} {A : ByteArray} {p s : Nat} {a : α} (h : r A p = .ok (a, s)) : (r >>= f) A p = f a A s := by
  show (do let (a, s) ← r A p; f a A s : Except DecodeError (β × Nat)) = _
  rw [h]
  rfl
theorem dk_map {α β : Type} {r : Reader DecodeError α} {g : α → β} {A : ByteArray} {p s : Nat} {a : α} (h : r A p = .ok (a, s)) : (g <$> r) A p = .ok (g a, s) := by
  show (do let (a, s) ← r A p; .ok (g a, s) : Except DecodeError (β × Nat)) = _
  rw [h]
  rfl
theorem dk_u2 {A : ByteArray} {p : Nat} {a b : UInt8} (h : A.data.toList[p]? = some a) (h2 : A.data.toList[p + 1]? = some b) : (Reader.u2 : Reader DecodeError Nat) A p = .ok (a.toNat * 256 + b.toNat, p + 2) := by
  show (Reader.u1 >>= fun hi => Reader.u1 >>= fun lo => Pure.pure (hi * 256 + lo) : Reader DecodeError Nat) A p = _
  rw [dk_bind (dk_u1 h), dk_bind (dk_u1 h2)]
  rfl
theorem dk_of {code : ByteArray} {pc n : Nat} {i : Instr} (h : Decoder.instr pc code pc = .ok (i, pc + n)) : decode code pc = .ok (i, n) := by
  have e : decode code pc = (match Decoder.instr pc code pc with | .error x => .error x | .ok (j, s) => .ok (j, s - pc)) := by
    show (do let (j, s) ← Decoder.instr pc code pc; Pure.pure (j, s - pc) : Except DecodeError (Instr × Nat)) = _
    cases Decoder.instr pc code pc <;> rfl
  rw [e, h]
  show Except.ok (i, pc + n - pc) = _
  rw [Nat.add_sub_cancel_left]
theorem dk_1 {code : ByteArray} {pc : Nat} (h : DkAt code pc [1]) : decode code pc = .ok (.aconst_null, 1) := dk_of ((dk_bind (dk_u1 (h 0 _ rfl))).trans rfl)
theorem dk_2 {code : ByteArray} {pc : Nat} (h : DkAt code pc [2]) : decode code pc = .ok (.iconst (-1), 1) := dk_of ((dk_bind (dk_u1 (h 0 _ rfl))).trans rfl)
theorem dk_3 {code : ByteArray} {pc : Nat} (h : DkAt code pc [3]) : decode code pc = .ok (.iconst 0, 1) := dk_of ((dk_bind (dk_u1 (h 0 _ rfl))).trans rfl)
theorem dk_4 {code : ByteArray} {pc : Nat} (h : DkAt code pc [4]) : decode code pc = .ok (.iconst 1, 1) := dk_of ((dk_bind (dk_u1 (h 0 _ rfl))).trans rfl)
theorem dk_5 {code : ByteArray} {pc : Nat} (h : DkAt code pc [5]) : decode code pc = .ok (.iconst 2, 1) := dk_of ((dk_bind (dk_u1 (h 0 _ rfl))).trans rfl)
theorem dk_6 {code : ByteArray} {pc : Nat} (h : DkAt code pc [6]) : decode code pc = .ok (.iconst 3, 1) := dk_of ((dk_bind (dk_u1 (h 0 _ rfl))).trans rfl)
theorem dk_7 {code : ByteArray} {pc : Nat} (h : DkAt code pc [7]) : decode code pc = .ok (.iconst 4, 1) := dk_of ((dk_bind (dk_u1 (h 0 _ rfl))).trans rfl)
theorem dk_8 {code : ByteArray} {pc : Nat} (h : DkAt code pc [8]) : decode code pc = .ok (.iconst 5, 1) := dk_of ((dk_bind (dk_u1 (h 0 _ rfl))).trans rfl)
theorem dk_9 {code : ByteArray} {pc : Nat} (h : DkAt code pc [9]) : decode code pc = .ok (.lconst 0, 1) := dk_of ((dk_bind (dk_u1 (h 0 _ rfl))).trans rfl)
theorem dk_10 {code : ByteArray} {pc : Nat} (h : DkAt code pc [10]) : decode code pc = .ok (.lconst 1, 1) := dk_of ((dk_bind (dk_u1 (h 0 _ rfl))).trans rfl)
theorem dk_16 {code : ByteArray} {pc : Nat} (a : UInt8) (h : DkAt code pc [16, a]) : decode code pc = .ok (.bipush (Reader.signed 8 a.toNat), 2) := dk_of ((dk_bind (dk_u1 (h 0 _ rfl))).trans ((dk_bind (dk_map (dk_u1 (h 1 _ rfl)))).trans rfl))
theorem dk_17 {code : ByteArray} {pc : Nat} (a b : UInt8) (h : DkAt code pc [17, a, b]) : decode code pc = .ok (.sipush (Reader.signed 16 (a.toNat * 256 + b.toNat)), 3) := dk_of ((dk_bind (dk_u1 (h 0 _ rfl))).trans ((dk_bind (dk_map (dk_u2 (h 1 _ rfl) (h 2 _ rfl)))).trans rfl))
theorem dk_18 {code : ByteArray} {pc : Nat} (a : UInt8) (h : DkAt code pc [18, a]) : decode code pc = .ok (.ldc a.toNat, 2) := dk_of ((dk_bind (dk_u1 (h 0 _ rfl))).trans ((dk_bind (dk_u1 (h 1 _ rfl))).trans rfl))
theorem dk_19 {code : ByteArray} {pc : Nat} (a b : UInt8) (h : DkAt code pc [19, a, b]) : decode code pc = .ok (.ldc_w (a.toNat * 256 + b.toNat), 3) := dk_of ((dk_bind (dk_u1 (h 0 _ rfl))).trans ((dk_bind (dk_u2 (h 1 _ rfl) (h 2 _ rfl))).trans rfl))
theorem dk_20 {code : ByteArray} {pc : Nat} (a b : UInt8) (h : DkAt code pc [20, a, b]) : decode code pc = .ok (.ldc2_w (a.toNat * 256 + b.toNat), 3) := dk_of ((dk_bind (dk_u1 (h 0 _ rfl))).trans ((dk_bind (dk_u2 (h 1 _ rfl) (h 2 _ rfl))).trans rfl))
theorem dk_21 {code : ByteArray} {pc : Nat} (a : UInt8) (h : DkAt code pc [21, a]) : decode code pc = .ok (.iload a.toNat, 2) := dk_of ((dk_bind (dk_u1 (h 0 _ rfl))).trans ((dk_bind (dk_u1 (h 1 _ rfl))).trans rfl))
theorem dk_22 {code : ByteArray} {pc : Nat} (a : UInt8) (h : DkAt code pc [22, a]) : decode code pc = .ok (.lload a.toNat, 2) := dk_of ((dk_bind (dk_u1 (h 0 _ rfl))).trans ((dk_bind (dk_u1 (h 1 _ rfl))).trans rfl))
theorem dk_25 {code : ByteArray} {pc : Nat} (a : UInt8) (h : DkAt code pc [25, a]) : decode code pc = .ok (.aload a.toNat, 2) := dk_of ((dk_bind (dk_u1 (h 0 _ rfl))).trans ((dk_bind (dk_u1 (h 1 _ rfl))).trans rfl))
theorem dk_26 {code : ByteArray} {pc : Nat} (h : DkAt code pc [26]) : decode code pc = .ok (.iload_n 0, 1) := dk_of ((dk_bind (dk_u1 (h 0 _ rfl))).trans rfl)
theorem dk_27 {code : ByteArray} {pc : Nat} (h : DkAt code pc [27]) : decode code pc = .ok (.iload_n 1, 1) := dk_of ((dk_bind (dk_u1 (h 0 _ rfl))).trans rfl)
theorem dk_28 {code : ByteArray} {pc : Nat} (h : DkAt code pc [28]) : decode code pc = .ok (.iload_n 2, 1) := dk_of ((dk_bind (dk_u1 (h 0 _ rfl))).trans rfl)
theorem dk_29 {code : ByteArray} {pc : Nat} (h : DkAt code pc [29]) : decode code pc = .ok (.iload_n 3, 1) := dk_of ((dk_bind (dk_u1 (h 0 _ rfl))).trans rfl)
theorem dk_30 {code : ByteArray} {pc : Nat} (h : DkAt code pc [30]) : decode code pc = .ok (.lload_n 0, 1) := dk_of ((dk_bind (dk_u1 (h 0 _ rfl))).trans rfl)
theorem dk_32 {code : ByteArray} {pc : Nat} (h : DkAt code pc [32]) : decode code pc = .ok (.lload_n 2, 1) := dk_of ((dk_bind (dk_u1 (h 0 _ rfl))).trans rfl)
theorem dk_33 {code : ByteArray} {pc : Nat} (h : DkAt code pc [33]) : decode code pc = .ok (.lload_n 3, 1) := dk_of ((dk_bind (dk_u1 (h 0 _ rfl))).trans rfl)
theorem dk_42 {code : ByteArray} {pc : Nat} (h : DkAt code pc [42]) : decode code pc = .ok (.aload_n 0, 1) := dk_of ((dk_bind (dk_u1 (h 0 _ rfl))).trans rfl)
theorem dk_43 {code : ByteArray} {pc : Nat} (h : DkAt code pc [43]) : decode code pc = .ok (.aload_n 1, 1) := dk_of ((dk_bind (dk_u1 (h 0 _ rfl))).trans rfl)
theorem dk_44 {code : ByteArray} {pc : Nat} (h : DkAt code pc [44]) : decode code pc = .ok (.aload_n 2, 1) := dk_of ((dk_bind (dk_u1 (h 0 _ rfl))).trans rfl)
theorem dk_45 {code : ByteArray} {pc : Nat} (h : DkAt code pc [45]) : decode code pc = .ok (.aload_n 3, 1) := dk_of ((dk_bind (dk_u1 (h 0 _ rfl))).trans rfl)
theorem dk_46 {code : ByteArray} {pc : Nat} (h : DkAt code pc [46]) : decode code pc = .ok (.iaload, 1) := dk_of ((dk_bind (dk_u1 (h 0 _ rfl))).trans rfl)
theorem dk_47 {code : ByteArray} {pc : Nat} (h : DkAt code pc [47]) : decode code pc = .ok (.laload, 1) := dk_of ((dk_bind (dk_u1 (h 0 _ rfl))).trans rfl)
theorem dk_50 {code : ByteArray} {pc : Nat} (h : DkAt code pc [50]) : decode code pc = .ok (.aaload, 1) := dk_of ((dk_bind (dk_u1 (h 0 _ rfl))).trans rfl)
theorem dk_51 {code : ByteArray} {pc : Nat} (h : DkAt code pc [51]) : decode code pc = .ok (.baload, 1) := dk_of ((dk_bind (dk_u1 (h 0 _ rfl))).trans rfl)
theorem dk_54 {code : ByteArray} {pc : Nat} (a : UInt8) (h : DkAt code pc [54, a]) : decode code pc = .ok (.istore a.toNat, 2) := dk_of ((dk_bind (dk_u1 (h 0 _ rfl))).trans ((dk_bind (dk_u1 (h 1 _ rfl))).trans rfl))
theorem dk_58 {code : ByteArray} {pc : Nat} (a : UInt8) (h : DkAt code pc [58, a]) : decode code pc = .ok (.astore a.toNat, 2) := dk_of ((dk_bind (dk_u1 (h 0 _ rfl))).trans ((dk_bind (dk_u1 (h 1 _ rfl))).trans rfl))
theorem dk_59 {code : ByteArray} {pc : Nat} (h : DkAt code pc [59]) : decode code pc = .ok (.istore_n 0, 1) := dk_of ((dk_bind (dk_u1 (h 0 _ rfl))).trans rfl)
theorem dk_60 {code : ByteArray} {pc : Nat} (h : DkAt code pc [60]) : decode code pc = .ok (.istore_n 1, 1) := dk_of ((dk_bind (dk_u1 (h 0 _ rfl))).trans rfl)
theorem dk_61 {code : ByteArray} {pc : Nat} (h : DkAt code pc [61]) : decode code pc = .ok (.istore_n 2, 1) := dk_of ((dk_bind (dk_u1 (h 0 _ rfl))).trans rfl)
theorem dk_62 {code : ByteArray} {pc : Nat} (h : DkAt code pc [62]) : decode code pc = .ok (.istore_n 3, 1) := dk_of ((dk_bind (dk_u1 (h 0 _ rfl))).trans rfl)
theorem dk_66 {code : ByteArray} {pc : Nat} (h : DkAt code pc [66]) : decode code pc = .ok (.lstore_n 3, 1) := dk_of ((dk_bind (dk_u1 (h 0 _ rfl))).trans rfl)
theorem dk_76 {code : ByteArray} {pc : Nat} (h : DkAt code pc [76]) : decode code pc = .ok (.astore_n 1, 1) := dk_of ((dk_bind (dk_u1 (h 0 _ rfl))).trans rfl)
theorem dk_77 {code : ByteArray} {pc : Nat} (h : DkAt code pc [77]) : decode code pc = .ok (.astore_n 2, 1) := dk_of ((dk_bind (dk_u1 (h 0 _ rfl))).trans rfl)
theorem dk_78 {code : ByteArray} {pc : Nat} (h : DkAt code pc [78]) : decode code pc = .ok (.astore_n 3, 1) := dk_of ((dk_bind (dk_u1 (h 0 _ rfl))).trans rfl)
theorem dk_79 {code : ByteArray} {pc : Nat} (h : DkAt code pc [79]) : decode code pc = .ok (.iastore, 1) := dk_of ((dk_bind (dk_u1 (h 0 _ rfl))).trans rfl)
theorem dk_80 {code : ByteArray} {pc : Nat} (h : DkAt code pc [80]) : decode code pc = .ok (.lastore, 1) := dk_of ((dk_bind (dk_u1 (h 0 _ rfl))).trans rfl)
theorem dk_83 {code : ByteArray} {pc : Nat} (h : DkAt code pc [83]) : decode code pc = .ok (.aastore, 1) := dk_of ((dk_bind (dk_u1 (h 0 _ rfl))).trans rfl)
theorem dk_84 {code : ByteArray} {pc : Nat} (h : DkAt code pc [84]) : decode code pc = .ok (.bastore, 1) := dk_of ((dk_bind (dk_u1 (h 0 _ rfl))).trans rfl)
theorem dk_87 {code : ByteArray} {pc : Nat} (h : DkAt code pc [87]) : decode code pc = .ok (.pop, 1) := dk_of ((dk_bind (dk_u1 (h 0 _ rfl))).trans rfl)
theorem dk_89 {code : ByteArray} {pc : Nat} (h : DkAt code pc [89]) : decode code pc = .ok (.dup, 1) := dk_of ((dk_bind (dk_u1 (h 0 _ rfl))).trans rfl)
theorem dk_90 {code : ByteArray} {pc : Nat} (h : DkAt code pc [90]) : decode code pc = .ok (.dup_x1, 1) := dk_of ((dk_bind (dk_u1 (h 0 _ rfl))).trans rfl)
theorem dk_92 {code : ByteArray} {pc : Nat} (h : DkAt code pc [92]) : decode code pc = .ok (.dup2, 1) := dk_of ((dk_bind (dk_u1 (h 0 _ rfl))).trans rfl)
theorem dk_96 {code : ByteArray} {pc : Nat} (h : DkAt code pc [96]) : decode code pc = .ok (.iadd, 1) := dk_of ((dk_bind (dk_u1 (h 0 _ rfl))).trans rfl)
theorem dk_97 {code : ByteArray} {pc : Nat} (h : DkAt code pc [97]) : decode code pc = .ok (.ladd, 1) := dk_of ((dk_bind (dk_u1 (h 0 _ rfl))).trans rfl)
theorem dk_100 {code : ByteArray} {pc : Nat} (h : DkAt code pc [100]) : decode code pc = .ok (.isub, 1) := dk_of ((dk_bind (dk_u1 (h 0 _ rfl))).trans rfl)
theorem dk_104 {code : ByteArray} {pc : Nat} (h : DkAt code pc [104]) : decode code pc = .ok (.imul, 1) := dk_of ((dk_bind (dk_u1 (h 0 _ rfl))).trans rfl)
theorem dk_105 {code : ByteArray} {pc : Nat} (h : DkAt code pc [105]) : decode code pc = .ok (.lmul, 1) := dk_of ((dk_bind (dk_u1 (h 0 _ rfl))).trans rfl)
theorem dk_108 {code : ByteArray} {pc : Nat} (h : DkAt code pc [108]) : decode code pc = .ok (.idiv, 1) := dk_of ((dk_bind (dk_u1 (h 0 _ rfl))).trans rfl)
theorem dk_112 {code : ByteArray} {pc : Nat} (h : DkAt code pc [112]) : decode code pc = .ok (.irem, 1) := dk_of ((dk_bind (dk_u1 (h 0 _ rfl))).trans rfl)
theorem dk_113 {code : ByteArray} {pc : Nat} (h : DkAt code pc [113]) : decode code pc = .ok (.lrem, 1) := dk_of ((dk_bind (dk_u1 (h 0 _ rfl))).trans rfl)
theorem dk_116 {code : ByteArray} {pc : Nat} (h : DkAt code pc [116]) : decode code pc = .ok (.ineg, 1) := dk_of ((dk_bind (dk_u1 (h 0 _ rfl))).trans rfl)
theorem dk_120 {code : ByteArray} {pc : Nat} (h : DkAt code pc [120]) : decode code pc = .ok (.ishl, 1) := dk_of ((dk_bind (dk_u1 (h 0 _ rfl))).trans rfl)
theorem dk_121 {code : ByteArray} {pc : Nat} (h : DkAt code pc [121]) : decode code pc = .ok (.lshl, 1) := dk_of ((dk_bind (dk_u1 (h 0 _ rfl))).trans rfl)
theorem dk_122 {code : ByteArray} {pc : Nat} (h : DkAt code pc [122]) : decode code pc = .ok (.ishr, 1) := dk_of ((dk_bind (dk_u1 (h 0 _ rfl))).trans rfl)
theorem dk_124 {code : ByteArray} {pc : Nat} (h : DkAt code pc [124]) : decode code pc = .ok (.iushr, 1) := dk_of ((dk_bind (dk_u1 (h 0 _ rfl))).trans rfl)
theorem dk_125 {code : ByteArray} {pc : Nat} (h : DkAt code pc [125]) : decode code pc = .ok (.lushr, 1) := dk_of ((dk_bind (dk_u1 (h 0 _ rfl))).trans rfl)
theorem dk_126 {code : ByteArray} {pc : Nat} (h : DkAt code pc [126]) : decode code pc = .ok (.iand, 1) := dk_of ((dk_bind (dk_u1 (h 0 _ rfl))).trans rfl)
theorem dk_127 {code : ByteArray} {pc : Nat} (h : DkAt code pc [127]) : decode code pc = .ok (.land, 1) := dk_of ((dk_bind (dk_u1 (h 0 _ rfl))).trans rfl)
theorem dk_128 {code : ByteArray} {pc : Nat} (h : DkAt code pc [128]) : decode code pc = .ok (.ior, 1) := dk_of ((dk_bind (dk_u1 (h 0 _ rfl))).trans rfl)
theorem dk_129 {code : ByteArray} {pc : Nat} (h : DkAt code pc [129]) : decode code pc = .ok (.lor, 1) := dk_of ((dk_bind (dk_u1 (h 0 _ rfl))).trans rfl)
theorem dk_130 {code : ByteArray} {pc : Nat} (h : DkAt code pc [130]) : decode code pc = .ok (.ixor, 1) := dk_of ((dk_bind (dk_u1 (h 0 _ rfl))).trans rfl)
theorem dk_131 {code : ByteArray} {pc : Nat} (h : DkAt code pc [131]) : decode code pc = .ok (.lxor, 1) := dk_of ((dk_bind (dk_u1 (h 0 _ rfl))).trans rfl)
theorem dk_132 {code : ByteArray} {pc : Nat} (a b : UInt8) (h : DkAt code pc [132, a, b]) : decode code pc = .ok (.iinc a.toNat (Reader.signed 8 b.toNat), 3) := dk_of ((dk_bind (dk_u1 (h 0 _ rfl))).trans ((dk_bind (dk_u1 (h 1 _ rfl))).trans ((dk_bind (dk_map (dk_u1 (h 2 _ rfl)))).trans rfl)))
theorem dk_133 {code : ByteArray} {pc : Nat} (h : DkAt code pc [133]) : decode code pc = .ok (.i2l, 1) := dk_of ((dk_bind (dk_u1 (h 0 _ rfl))).trans rfl)
theorem dk_136 {code : ByteArray} {pc : Nat} (h : DkAt code pc [136]) : decode code pc = .ok (.l2i, 1) := dk_of ((dk_bind (dk_u1 (h 0 _ rfl))).trans rfl)
theorem dk_145 {code : ByteArray} {pc : Nat} (h : DkAt code pc [145]) : decode code pc = .ok (.i2b, 1) := dk_of ((dk_bind (dk_u1 (h 0 _ rfl))).trans rfl)
theorem dk_146 {code : ByteArray} {pc : Nat} (h : DkAt code pc [146]) : decode code pc = .ok (.i2c, 1) := dk_of ((dk_bind (dk_u1 (h 0 _ rfl))).trans rfl)
theorem dk_148 {code : ByteArray} {pc : Nat} (h : DkAt code pc [148]) : decode code pc = .ok (.lcmp, 1) := dk_of ((dk_bind (dk_u1 (h 0 _ rfl))).trans rfl)
theorem dk_153 {code : ByteArray} {pc : Nat} (a b : UInt8) (h : DkAt code pc [153, a, b]) : decode code pc = .ok (.ifCond .eq (Reader.signed 16 (a.toNat * 256 + b.toNat)), 3) := dk_of ((dk_bind (dk_u1 (h 0 _ rfl))).trans ((dk_bind (dk_map (dk_u2 (h 1 _ rfl) (h 2 _ rfl)))).trans rfl))
theorem dk_154 {code : ByteArray} {pc : Nat} (a b : UInt8) (h : DkAt code pc [154, a, b]) : decode code pc = .ok (.ifCond .ne (Reader.signed 16 (a.toNat * 256 + b.toNat)), 3) := dk_of ((dk_bind (dk_u1 (h 0 _ rfl))).trans ((dk_bind (dk_map (dk_u2 (h 1 _ rfl) (h 2 _ rfl)))).trans rfl))
theorem dk_155 {code : ByteArray} {pc : Nat} (a b : UInt8) (h : DkAt code pc [155, a, b]) : decode code pc = .ok (.ifCond .lt (Reader.signed 16 (a.toNat * 256 + b.toNat)), 3) := dk_of ((dk_bind (dk_u1 (h 0 _ rfl))).trans ((dk_bind (dk_map (dk_u2 (h 1 _ rfl) (h 2 _ rfl)))).trans rfl))
theorem dk_156 {code : ByteArray} {pc : Nat} (a b : UInt8) (h : DkAt code pc [156, a, b]) : decode code pc = .ok (.ifCond .ge (Reader.signed 16 (a.toNat * 256 + b.toNat)), 3) := dk_of ((dk_bind (dk_u1 (h 0 _ rfl))).trans ((dk_bind (dk_map (dk_u2 (h 1 _ rfl) (h 2 _ rfl)))).trans rfl))
theorem dk_157 {code : ByteArray} {pc : Nat} (a b : UInt8) (h : DkAt code pc [157, a, b]) : decode code pc = .ok (.ifCond .gt (Reader.signed 16 (a.toNat * 256 + b.toNat)), 3) := dk_of ((dk_bind (dk_u1 (h 0 _ rfl))).trans ((dk_bind (dk_map (dk_u2 (h 1 _ rfl) (h 2 _ rfl)))).trans rfl))
theorem dk_158 {code : ByteArray} {pc : Nat} (a b : UInt8) (h : DkAt code pc [158, a, b]) : decode code pc = .ok (.ifCond .le (Reader.signed 16 (a.toNat * 256 + b.toNat)), 3) := dk_of ((dk_bind (dk_u1 (h 0 _ rfl))).trans ((dk_bind (dk_map (dk_u2 (h 1 _ rfl) (h 2 _ rfl)))).trans rfl))
theorem dk_159 {code : ByteArray} {pc : Nat} (a b : UInt8) (h : DkAt code pc [159, a, b]) : decode code pc = .ok (.if_icmp .eq (Reader.signed 16 (a.toNat * 256 + b.toNat)), 3) := dk_of ((dk_bind (dk_u1 (h 0 _ rfl))).trans ((dk_bind (dk_map (dk_u2 (h 1 _ rfl) (h 2 _ rfl)))).trans rfl))
theorem dk_160 {code : ByteArray} {pc : Nat} (a b : UInt8) (h : DkAt code pc [160, a, b]) : decode code pc = .ok (.if_icmp .ne (Reader.signed 16 (a.toNat * 256 + b.toNat)), 3) := dk_of ((dk_bind (dk_u1 (h 0 _ rfl))).trans ((dk_bind (dk_map (dk_u2 (h 1 _ rfl) (h 2 _ rfl)))).trans rfl))
theorem dk_161 {code : ByteArray} {pc : Nat} (a b : UInt8) (h : DkAt code pc [161, a, b]) : decode code pc = .ok (.if_icmp .lt (Reader.signed 16 (a.toNat * 256 + b.toNat)), 3) := dk_of ((dk_bind (dk_u1 (h 0 _ rfl))).trans ((dk_bind (dk_map (dk_u2 (h 1 _ rfl) (h 2 _ rfl)))).trans rfl))
theorem dk_162 {code : ByteArray} {pc : Nat} (a b : UInt8) (h : DkAt code pc [162, a, b]) : decode code pc = .ok (.if_icmp .ge (Reader.signed 16 (a.toNat * 256 + b.toNat)), 3) := dk_of ((dk_bind (dk_u1 (h 0 _ rfl))).trans ((dk_bind (dk_map (dk_u2 (h 1 _ rfl) (h 2 _ rfl)))).trans rfl))
theorem dk_163 {code : ByteArray} {pc : Nat} (a b : UInt8) (h : DkAt code pc [163, a, b]) : decode code pc = .ok (.if_icmp .gt (Reader.signed 16 (a.toNat * 256 + b.toNat)), 3) := dk_of ((dk_bind (dk_u1 (h 0 _ rfl))).trans ((dk_bind (dk_map (dk_u2 (h 1 _ rfl) (h 2 _ rfl)))).trans rfl))
theorem dk_164 {code : ByteArray} {pc : Nat} (a b : UInt8) (h : DkAt code pc [164, a, b]) : decode code pc = .ok (.if_icmp .le (Reader.signed 16 (a.toNat * 256 + b.toNat)), 3) := dk_of ((dk_bind (dk_u1 (h 0 _ rfl))).trans ((dk_bind (dk_map (dk_u2 (h 1 _ rfl) (h 2 _ rfl)))).trans rfl))
theorem dk_166 {code : ByteArray} {pc : Nat} (a b : UInt8) (h : DkAt code pc [166, a, b]) : decode code pc = .ok (.if_acmp .ne (Reader.signed 16 (a.toNat * 256 + b.toNat)), 3) := dk_of ((dk_bind (dk_u1 (h 0 _ rfl))).trans ((dk_bind (dk_map (dk_u2 (h 1 _ rfl) (h 2 _ rfl)))).trans rfl))
theorem dk_167 {code : ByteArray} {pc : Nat} (a b : UInt8) (h : DkAt code pc [167, a, b]) : decode code pc = .ok (.goto (Reader.signed 16 (a.toNat * 256 + b.toNat)), 3) := dk_of ((dk_bind (dk_u1 (h 0 _ rfl))).trans ((dk_bind (dk_map (dk_u2 (h 1 _ rfl) (h 2 _ rfl)))).trans rfl))
theorem dk_172 {code : ByteArray} {pc : Nat} (h : DkAt code pc [172]) : decode code pc = .ok (.ireturn, 1) := dk_of ((dk_bind (dk_u1 (h 0 _ rfl))).trans rfl)
theorem dk_176 {code : ByteArray} {pc : Nat} (h : DkAt code pc [176]) : decode code pc = .ok (.areturn, 1) := dk_of ((dk_bind (dk_u1 (h 0 _ rfl))).trans rfl)
theorem dk_177 {code : ByteArray} {pc : Nat} (h : DkAt code pc [177]) : decode code pc = .ok (.return_, 1) := dk_of ((dk_bind (dk_u1 (h 0 _ rfl))).trans rfl)
theorem dk_178 {code : ByteArray} {pc : Nat} (a b : UInt8) (h : DkAt code pc [178, a, b]) : decode code pc = .ok (.getstatic (a.toNat * 256 + b.toNat), 3) := dk_of ((dk_bind (dk_u1 (h 0 _ rfl))).trans ((dk_bind (dk_u2 (h 1 _ rfl) (h 2 _ rfl))).trans rfl))
theorem dk_180 {code : ByteArray} {pc : Nat} (a b : UInt8) (h : DkAt code pc [180, a, b]) : decode code pc = .ok (.getfield (a.toNat * 256 + b.toNat), 3) := dk_of ((dk_bind (dk_u1 (h 0 _ rfl))).trans ((dk_bind (dk_u2 (h 1 _ rfl) (h 2 _ rfl))).trans rfl))
theorem dk_181 {code : ByteArray} {pc : Nat} (a b : UInt8) (h : DkAt code pc [181, a, b]) : decode code pc = .ok (.putfield (a.toNat * 256 + b.toNat), 3) := dk_of ((dk_bind (dk_u1 (h 0 _ rfl))).trans ((dk_bind (dk_u2 (h 1 _ rfl) (h 2 _ rfl))).trans rfl))
theorem dk_182 {code : ByteArray} {pc : Nat} (a b : UInt8) (h : DkAt code pc [182, a, b]) : decode code pc = .ok (.invokevirtual (a.toNat * 256 + b.toNat), 3) := dk_of ((dk_bind (dk_u1 (h 0 _ rfl))).trans ((dk_bind (dk_u2 (h 1 _ rfl) (h 2 _ rfl))).trans rfl))
theorem dk_183 {code : ByteArray} {pc : Nat} (a b : UInt8) (h : DkAt code pc [183, a, b]) : decode code pc = .ok (.invokespecial (a.toNat * 256 + b.toNat), 3) := dk_of ((dk_bind (dk_u1 (h 0 _ rfl))).trans ((dk_bind (dk_u2 (h 1 _ rfl) (h 2 _ rfl))).trans rfl))
theorem dk_184 {code : ByteArray} {pc : Nat} (a b : UInt8) (h : DkAt code pc [184, a, b]) : decode code pc = .ok (.invokestatic (a.toNat * 256 + b.toNat), 3) := dk_of ((dk_bind (dk_u1 (h 0 _ rfl))).trans ((dk_bind (dk_u2 (h 1 _ rfl) (h 2 _ rfl))).trans rfl))
theorem dk_187 {code : ByteArray} {pc : Nat} (a b : UInt8) (h : DkAt code pc [187, a, b]) : decode code pc = .ok (.new (a.toNat * 256 + b.toNat), 3) := dk_of ((dk_bind (dk_u1 (h 0 _ rfl))).trans ((dk_bind (dk_u2 (h 1 _ rfl) (h 2 _ rfl))).trans rfl))
theorem dk_188_8 {code : ByteArray} {pc : Nat} (h : DkAt code pc [188, 8]) : decode code pc = .ok (.newarray .byte, 2) := dk_of ((dk_bind (dk_u1 (h 0 _ rfl))).trans ((dk_bind (dk_u1 (h 1 _ rfl))).trans rfl))
theorem dk_188_10 {code : ByteArray} {pc : Nat} (h : DkAt code pc [188, 10]) : decode code pc = .ok (.newarray .int, 2) := dk_of ((dk_bind (dk_u1 (h 0 _ rfl))).trans ((dk_bind (dk_u1 (h 1 _ rfl))).trans rfl))
theorem dk_188_11 {code : ByteArray} {pc : Nat} (h : DkAt code pc [188, 11]) : decode code pc = .ok (.newarray .long, 2) := dk_of ((dk_bind (dk_u1 (h 0 _ rfl))).trans ((dk_bind (dk_u1 (h 1 _ rfl))).trans rfl))
theorem dk_189 {code : ByteArray} {pc : Nat} (a b : UInt8) (h : DkAt code pc [189, a, b]) : decode code pc = .ok (.anewarray (a.toNat * 256 + b.toNat), 3) := dk_of ((dk_bind (dk_u1 (h 0 _ rfl))).trans ((dk_bind (dk_u2 (h 1 _ rfl) (h 2 _ rfl))).trans rfl))
theorem dk_190 {code : ByteArray} {pc : Nat} (h : DkAt code pc [190]) : decode code pc = .ok (.arraylength, 1) := dk_of ((dk_bind (dk_u1 (h 0 _ rfl))).trans rfl)
theorem dk_191 {code : ByteArray} {pc : Nat} (h : DkAt code pc [191]) : decode code pc = .ok (.athrow, 1) := dk_of ((dk_bind (dk_u1 (h 0 _ rfl))).trans rfl)
theorem dk_192 {code : ByteArray} {pc : Nat} (a b : UInt8) (h : DkAt code pc [192, a, b]) : decode code pc = .ok (.checkcast (a.toNat * 256 + b.toNat), 3) := dk_of ((dk_bind (dk_u1 (h 0 _ rfl))).trans ((dk_bind (dk_u2 (h 1 _ rfl) (h 2 _ rfl))).trans rfl))
theorem dk_193 {code : ByteArray} {pc : Nat} (a b : UInt8) (h : DkAt code pc [193, a, b]) : decode code pc = .ok (.instanceof (a.toNat * 256 + b.toNat), 3) := dk_of ((dk_bind (dk_u1 (h 0 _ rfl))).trans ((dk_bind (dk_u2 (h 1 _ rfl) (h 2 _ rfl))).trans rfl))
theorem dk_198 {code : ByteArray} {pc : Nat} (a b : UInt8) (h : DkAt code pc [198, a, b]) : decode code pc = .ok (.ifnull (Reader.signed 16 (a.toNat * 256 + b.toNat)), 3) := dk_of ((dk_bind (dk_u1 (h 0 _ rfl))).trans ((dk_bind (dk_map (dk_u2 (h 1 _ rfl) (h 2 _ rfl)))).trans rfl))
theorem dk_199 {code : ByteArray} {pc : Nat} (a b : UInt8) (h : DkAt code pc [199, a, b]) : decode code pc = .ok (.ifnonnull (Reader.signed 16 (a.toNat * 256 + b.toNat)), 3) := dk_of ((dk_bind (dk_u1 (h 0 _ rfl))).trans ((dk_bind (dk_map (dk_u2 (h 1 _ rfl) (h 2 _ rfl)))).trans rfl))
/-! java/lang/Throwable -/
set_option maxRecDepth 100000
def RJ0 : String := "java/lang/Throwable"
def TJ0 : u_T := fun k => match k with
  | 0 => ("java/lang/Throwable", "cause", "Ljava/lang/Throwable;", false)
  | 1 => ("java/lang/Throwable", "stackTrace", "[Ljava/lang/StackTraceElement;", false)
  | 2 => ("java/lang/Throwable", "suppressedExceptions", "Ljava/util/List;", false)
  | 3 => ("java/lang/Throwable", "detailMessage", "Ljava/lang/String;", false)
  | _ => ("java/lang/Throwable", "backtrace", "Ljava/lang/Object;", false)
def tyJ0 : Nat → FieldType := fun k => match k with
  | 0 => .object "java/lang/Throwable"
  | 1 => .array (.object "java/lang/StackTraceElement")
  | 2 => .object "java/util/List"
  | 3 => .object "java/lang/String"
  | _ => .object "java/lang/Object"
abbrev wsJ00 : List Cond := u_ws RJ0 TJ0 5
theorem nmJ0 : ∀ a, a < 5 → ∀ b, b < 5 → a ≠ b → (TJ0 a).2.1 ≠ (TJ0 b).2.1 := by decide +kernel
theorem tyJ0_ok : ∀ k, k < 5 → parseFieldDescriptor (TJ0 k).2.2.1 = some (tyJ0 k) := by decide +kernel
abbrev cJ0_init : ByteArray := prog_31_method_1_code
def yJ0_init : MethodName := ⟨RJ0, "<init>", "()V"⟩
def dkwJ0_init_1 : List UInt8 := [182, 0, 27, 87, 177]
abbrev dktJ0_init_1 : List UInt8 := dkwJ0_init_1 ++ []
def dkwJ0_init_0 : List UInt8 := [42, 183, 0, 1, 42, 42, 181, 0, 7, 42, 178, 0, 13, 181, 0, 17, 42, 178, 0, 20, 181, 0, 24, 42]
abbrev dktJ0_init_0 : List UInt8 := dkwJ0_init_0 ++ dktJ0_init_1
theorem dksJ0_init_0 : cJ0_init.data.toList.drop 0 = dktJ0_init_0 := by decide +kernel
theorem dksJ0_init_1 : cJ0_init.data.toList.drop 24 = dktJ0_init_1 := dk_seg dksJ0_init_0 24 rfl rfl
theorem dJ0_init_0 : decode cJ0_init 0 = .ok (.aload_n 0, 1) := dk_42 (dk_at dksJ0_init_0 0 rfl rfl)
theorem dJ0_init_1 : decode cJ0_init 1 = .ok (.invokespecial 1, 3) := dk_183 0 1 (dk_at dksJ0_init_0 1 rfl rfl)
theorem dJ0_init_4 : decode cJ0_init 4 = .ok (.aload_n 0, 1) := dk_42 (dk_at dksJ0_init_0 4 rfl rfl)
theorem dJ0_init_5 : decode cJ0_init 5 = .ok (.aload_n 0, 1) := dk_42 (dk_at dksJ0_init_0 5 rfl rfl)
theorem dJ0_init_6 : decode cJ0_init 6 = .ok (.putfield 7, 3) := dk_181 0 7 (dk_at dksJ0_init_0 6 rfl rfl)
theorem dJ0_init_9 : decode cJ0_init 9 = .ok (.aload_n 0, 1) := dk_42 (dk_at dksJ0_init_0 9 rfl rfl)
theorem dJ0_init_10 : decode cJ0_init 10 = .ok (.getstatic 13, 3) := dk_178 0 13 (dk_at dksJ0_init_0 10 rfl rfl)
theorem dJ0_init_13 : decode cJ0_init 13 = .ok (.putfield 17, 3) := dk_181 0 17 (dk_at dksJ0_init_0 13 rfl rfl)
theorem dJ0_init_16 : decode cJ0_init 16 = .ok (.aload_n 0, 1) := dk_42 (dk_at dksJ0_init_0 16 rfl rfl)
theorem dJ0_init_17 : decode cJ0_init 17 = .ok (.getstatic 20, 3) := dk_178 0 20 (dk_at dksJ0_init_0 17 rfl rfl)
theorem dJ0_init_20 : decode cJ0_init 20 = .ok (.putfield 24, 3) := dk_181 0 24 (dk_at dksJ0_init_0 20 rfl rfl)
theorem dJ0_init_23 : decode cJ0_init 23 = .ok (.aload_n 0, 1) := dk_42 (dk_at dksJ0_init_0 23 rfl rfl)
theorem dJ0_init_24 : decode cJ0_init 24 = .ok (.invokevirtual 27, 3) := dk_182 0 27 (dk_at dksJ0_init_1 0 rfl rfl)
theorem dJ0_init_27 : decode cJ0_init 27 = .ok (.pop, 1) := dk_87 (dk_at dksJ0_init_1 3 rfl rfl)
theorem dJ0_init_28 : decode cJ0_init 28 = .ok (.return_, 1) := dk_177 (dk_at dksJ0_init_1 4 rfl rfl)
abbrev cJ0_init_2 : ByteArray := prog_31_method_4_code
def yJ0_init_2 : MethodName := ⟨RJ0, "<init>", "(Ljava/lang/Throwable;)V"⟩
def dkwJ0_init_2_2 : List UInt8 := [181, 0, 7, 177]
abbrev dktJ0_init_2_2 : List UInt8 := dkwJ0_init_2_2 ++ []
def dkwJ0_init_2_1 : List UInt8 := [182, 0, 27, 87, 42, 43, 199, 0, 7, 1, 167, 0, 7, 43, 182, 0, 35, 181, 0, 31, 42, 43]
abbrev dktJ0_init_2_1 : List UInt8 := dkwJ0_init_2_1 ++ dktJ0_init_2_2
def dkwJ0_init_2_0 : List UInt8 := [42, 183, 0, 1, 42, 42, 181, 0, 7, 42, 178, 0, 13, 181, 0, 17, 42, 178, 0, 20, 181, 0, 24, 42]
abbrev dktJ0_init_2_0 : List UInt8 := dkwJ0_init_2_0 ++ dktJ0_init_2_1
theorem dksJ0_init_2_0 : cJ0_init_2.data.toList.drop 0 = dktJ0_init_2_0 := by decide +kernel
theorem dksJ0_init_2_1 : cJ0_init_2.data.toList.drop 24 = dktJ0_init_2_1 := dk_seg dksJ0_init_2_0 24 rfl rfl
theorem dksJ0_init_2_2 : cJ0_init_2.data.toList.drop 46 = dktJ0_init_2_2 := dk_seg dksJ0_init_2_1 22 rfl rfl
theorem dJ0_init_2_0 : decode cJ0_init_2 0 = .ok (.aload_n 0, 1) := dk_42 (dk_at dksJ0_init_2_0 0 rfl rfl)
theorem dJ0_init_2_1 : decode cJ0_init_2 1 = .ok (.invokespecial 1, 3) := dk_183 0 1 (dk_at dksJ0_init_2_0 1 rfl rfl)
theorem dJ0_init_2_4 : decode cJ0_init_2 4 = .ok (.aload_n 0, 1) := dk_42 (dk_at dksJ0_init_2_0 4 rfl rfl)
theorem dJ0_init_2_5 : decode cJ0_init_2 5 = .ok (.aload_n 0, 1) := dk_42 (dk_at dksJ0_init_2_0 5 rfl rfl)
theorem dJ0_init_2_6 : decode cJ0_init_2 6 = .ok (.putfield 7, 3) := dk_181 0 7 (dk_at dksJ0_init_2_0 6 rfl rfl)
theorem dJ0_init_2_9 : decode cJ0_init_2 9 = .ok (.aload_n 0, 1) := dk_42 (dk_at dksJ0_init_2_0 9 rfl rfl)
theorem dJ0_init_2_10 : decode cJ0_init_2 10 = .ok (.getstatic 13, 3) := dk_178 0 13 (dk_at dksJ0_init_2_0 10 rfl rfl)
theorem dJ0_init_2_13 : decode cJ0_init_2 13 = .ok (.putfield 17, 3) := dk_181 0 17 (dk_at dksJ0_init_2_0 13 rfl rfl)
theorem dJ0_init_2_16 : decode cJ0_init_2 16 = .ok (.aload_n 0, 1) := dk_42 (dk_at dksJ0_init_2_0 16 rfl rfl)
theorem dJ0_init_2_17 : decode cJ0_init_2 17 = .ok (.getstatic 20, 3) := dk_178 0 20 (dk_at dksJ0_init_2_0 17 rfl rfl)
theorem dJ0_init_2_20 : decode cJ0_init_2 20 = .ok (.putfield 24, 3) := dk_181 0 24 (dk_at dksJ0_init_2_0 20 rfl rfl)
theorem dJ0_init_2_23 : decode cJ0_init_2 23 = .ok (.aload_n 0, 1) := dk_42 (dk_at dksJ0_init_2_0 23 rfl rfl)
theorem dJ0_init_2_24 : decode cJ0_init_2 24 = .ok (.invokevirtual 27, 3) := dk_182 0 27 (dk_at dksJ0_init_2_1 0 rfl rfl)
theorem dJ0_init_2_27 : decode cJ0_init_2 27 = .ok (.pop, 1) := dk_87 (dk_at dksJ0_init_2_1 3 rfl rfl)
theorem dJ0_init_2_28 : decode cJ0_init_2 28 = .ok (.aload_n 0, 1) := dk_42 (dk_at dksJ0_init_2_1 4 rfl rfl)
theorem dJ0_init_2_29 : decode cJ0_init_2 29 = .ok (.aload_n 1, 1) := dk_43 (dk_at dksJ0_init_2_1 5 rfl rfl)
theorem dJ0_init_2_30 : decode cJ0_init_2 30 = .ok (.ifnonnull 7, 3) := dk_199 0 7 (dk_at dksJ0_init_2_1 6 rfl rfl)
theorem dJ0_init_2_33 : decode cJ0_init_2 33 = .ok (.aconst_null, 1) := dk_1 (dk_at dksJ0_init_2_1 9 rfl rfl)
theorem dJ0_init_2_34 : decode cJ0_init_2 34 = .ok (.goto 7, 3) := dk_167 0 7 (dk_at dksJ0_init_2_1 10 rfl rfl)
theorem dJ0_init_2_37 : decode cJ0_init_2 37 = .ok (.aload_n 1, 1) := dk_43 (dk_at dksJ0_init_2_1 13 rfl rfl)
theorem dJ0_init_2_38 : decode cJ0_init_2 38 = .ok (.invokevirtual 35, 3) := dk_182 0 35 (dk_at dksJ0_init_2_1 14 rfl rfl)
theorem dJ0_init_2_41 : decode cJ0_init_2 41 = .ok (.putfield 31, 3) := dk_181 0 31 (dk_at dksJ0_init_2_1 17 rfl rfl)
theorem dJ0_init_2_44 : decode cJ0_init_2 44 = .ok (.aload_n 0, 1) := dk_42 (dk_at dksJ0_init_2_1 20 rfl rfl)
theorem dJ0_init_2_45 : decode cJ0_init_2 45 = .ok (.aload_n 1, 1) := dk_43 (dk_at dksJ0_init_2_1 21 rfl rfl)
theorem dJ0_init_2_46 : decode cJ0_init_2 46 = .ok (.putfield 7, 3) := dk_181 0 7 (dk_at dksJ0_init_2_2 0 rfl rfl)
theorem dJ0_init_2_49 : decode cJ0_init_2 49 = .ok (.return_, 1) := dk_177 (dk_at dksJ0_init_2_2 3 rfl rfl)
abbrev cJ0_toString : ByteArray := prog_31_method_11_code
def yJ0_toString : MethodName := ⟨RJ0, "toString", "()Ljava/lang/String;"⟩
def dkwJ0_toString_1 : List UInt8 := [43, 182, 0, 49, 18, 81, 182, 0, 49, 44, 182, 0, 49, 182, 0, 60, 167, 0, 4, 43, 176]
abbrev dktJ0_toString_1 : List UInt8 := dkwJ0_toString_1 ++ []
def dkwJ0_toString_0 : List UInt8 := [42, 182, 0, 69, 182, 0, 73, 76, 42, 182, 0, 78, 77, 44, 198, 0, 29, 187, 0, 44, 89, 183, 0, 46]
abbrev dktJ0_toString_0 : List UInt8 := dkwJ0_toString_0 ++ dktJ0_toString_1
theorem dksJ0_toString_0 : cJ0_toString.data.toList.drop 0 = dktJ0_toString_0 := by decide +kernel
theorem dksJ0_toString_1 : cJ0_toString.data.toList.drop 24 = dktJ0_toString_1 := dk_seg dksJ0_toString_0 24 rfl rfl
theorem dJ0_toString_0 : decode cJ0_toString 0 = .ok (.aload_n 0, 1) := dk_42 (dk_at dksJ0_toString_0 0 rfl rfl)
theorem dJ0_toString_1 : decode cJ0_toString 1 = .ok (.invokevirtual 69, 3) := dk_182 0 69 (dk_at dksJ0_toString_0 1 rfl rfl)
theorem dJ0_toString_4 : decode cJ0_toString 4 = .ok (.invokevirtual 73, 3) := dk_182 0 73 (dk_at dksJ0_toString_0 4 rfl rfl)
theorem dJ0_toString_7 : decode cJ0_toString 7 = .ok (.astore_n 1, 1) := dk_76 (dk_at dksJ0_toString_0 7 rfl rfl)
theorem dJ0_toString_8 : decode cJ0_toString 8 = .ok (.aload_n 0, 1) := dk_42 (dk_at dksJ0_toString_0 8 rfl rfl)
theorem dJ0_toString_9 : decode cJ0_toString 9 = .ok (.invokevirtual 78, 3) := dk_182 0 78 (dk_at dksJ0_toString_0 9 rfl rfl)
theorem dJ0_toString_12 : decode cJ0_toString 12 = .ok (.astore_n 2, 1) := dk_77 (dk_at dksJ0_toString_0 12 rfl rfl)
theorem dJ0_toString_13 : decode cJ0_toString 13 = .ok (.aload_n 2, 1) := dk_44 (dk_at dksJ0_toString_0 13 rfl rfl)
theorem dJ0_toString_14 : decode cJ0_toString 14 = .ok (.ifnull 29, 3) := dk_198 0 29 (dk_at dksJ0_toString_0 14 rfl rfl)
theorem dJ0_toString_17 : decode cJ0_toString 17 = .ok (.new 44, 3) := dk_187 0 44 (dk_at dksJ0_toString_0 17 rfl rfl)
theorem dJ0_toString_20 : decode cJ0_toString 20 = .ok (.dup, 1) := dk_89 (dk_at dksJ0_toString_0 20 rfl rfl)
theorem dJ0_toString_21 : decode cJ0_toString 21 = .ok (.invokespecial 46, 3) := dk_183 0 46 (dk_at dksJ0_toString_0 21 rfl rfl)
theorem dJ0_toString_24 : decode cJ0_toString 24 = .ok (.aload_n 1, 1) := dk_43 (dk_at dksJ0_toString_1 0 rfl rfl)
theorem dJ0_toString_25 : decode cJ0_toString 25 = .ok (.invokevirtual 49, 3) := dk_182 0 49 (dk_at dksJ0_toString_1 1 rfl rfl)
theorem dJ0_toString_28 : decode cJ0_toString 28 = .ok (.ldc 81, 2) := dk_18 81 (dk_at dksJ0_toString_1 4 rfl rfl)
theorem dJ0_toString_30 : decode cJ0_toString 30 = .ok (.invokevirtual 49, 3) := dk_182 0 49 (dk_at dksJ0_toString_1 6 rfl rfl)
theorem dJ0_toString_33 : decode cJ0_toString 33 = .ok (.aload_n 2, 1) := dk_44 (dk_at dksJ0_toString_1 9 rfl rfl)
theorem dJ0_toString_34 : decode cJ0_toString 34 = .ok (.invokevirtual 49, 3) := dk_182 0 49 (dk_at dksJ0_toString_1 10 rfl rfl)
theorem dJ0_toString_37 : decode cJ0_toString 37 = .ok (.invokevirtual 60, 3) := dk_182 0 60 (dk_at dksJ0_toString_1 13 rfl rfl)
theorem dJ0_toString_40 : decode cJ0_toString 40 = .ok (.goto 4, 3) := dk_167 0 4 (dk_at dksJ0_toString_1 16 rfl rfl)
theorem dJ0_toString_43 : decode cJ0_toString 43 = .ok (.aload_n 1, 1) := dk_43 (dk_at dksJ0_toString_1 19 rfl rfl)
theorem dJ0_toString_44 : decode cJ0_toString 44 = .ok (.areturn, 1) := dk_176 (dk_at dksJ0_toString_1 20 rfl rfl)
abbrev cJ0_getLocalizedMessage : ByteArray := prog_31_method_7_code
def yJ0_getLocalizedMessage : MethodName := ⟨RJ0, "getLocalizedMessage", "()Ljava/lang/String;"⟩
theorem dJ0_getLocalizedMessage_0 : decode cJ0_getLocalizedMessage 0 = .ok (.aload_n 0, 1) := by decide +kernel
theorem dJ0_getLocalizedMessage_1 : decode cJ0_getLocalizedMessage 1 = .ok (.invokevirtual 39, 3) := by decide +kernel
theorem dJ0_getLocalizedMessage_4 : decode cJ0_getLocalizedMessage 4 = .ok (.areturn, 1) := by decide +kernel
abbrev cJ0_getMessage : ByteArray := prog_31_method_6_code
def yJ0_getMessage : MethodName := ⟨RJ0, "getMessage", "()Ljava/lang/String;"⟩
theorem dJ0_getMessage_0 : decode cJ0_getMessage 0 = .ok (.aload_n 0, 1) := by decide +kernel
theorem dJ0_getMessage_1 : decode cJ0_getMessage 1 = .ok (.getfield 31, 3) := by decide +kernel
theorem dJ0_getMessage_4 : decode cJ0_getMessage 4 = .ok (.areturn, 1) := by decide +kernel
theorem q119 : (Jvm.Cond.initialized "java/lang/Throwable") ∈ lw_all := lw_g (lw_at lw_m1 2 rfl) rfl
theorem q168 : (Jvm.Cond.declares ({ cls := "java/lang/Throwable", name := "<init>", desc := "()V" } : Jvm.MethodName)) ∈ lw_tbl := lw_at lw_m1 51 rfl
theorem q169 : (Jvm.Cond.declares ({ cls := "java/lang/Throwable", name := "<init>", desc := "(Ljava/lang/String;)V" } : Jvm.MethodName)) ∈ lw_tbl := lw_at lw_m1 52 rfl
theorem q173 : (Jvm.Cond.lays "java/lang/Throwable" "java/lang/Throwable" "cause" "Ljava/lang/Throwable;") ∈ lw_all := lw_g (lw_at lw_m1 56 rfl) rfl
theorem q175 : (Jvm.Cond.lays "java/lang/Throwable" "java/lang/Throwable" "stackTrace" "[Ljava/lang/StackTraceElement;") ∈ lw_all := lw_g (lw_at lw_m1 58 rfl) rfl
theorem q177 : (Jvm.Cond.lays "java/lang/Throwable" "java/lang/Throwable" "suppressedExceptions" "Ljava/util/List;") ∈ lw_all := lw_g (lw_at lw_m1 60 rfl) rfl
theorem q179 : (Jvm.Cond.lays "java/lang/Throwable" "java/lang/Throwable" "detailMessage" "Ljava/lang/String;") ∈ lw_all := lw_g (lw_at lw_m1 62 rfl) rfl
theorem q181 : (Jvm.Cond.lays "java/lang/Throwable" "java/lang/Throwable" "backtrace" "Ljava/lang/Object;") ∈ lw_all := lw_g (lw_at lw_m1 64 rfl) rfl
theorem q182 : (Jvm.Cond.fieldLink "java/lang/Throwable" (198 : Nat) "java/lang/Throwable" "backtrace" "Ljava/lang/Object;") ∈ lw_all := lw_g (lw_at lw_m1 65 rfl) rfl
theorem q183 : (Jvm.Cond.superclass "java/lang/Throwable" "java/lang/Object") ∈ lw_all := lw_g (lw_at lw_m1 66 rfl) rfl
theorem q184 : (Jvm.Cond.instanceMethod ({ cls := "java/lang/Throwable", name := "<init>", desc := "()V" } : Jvm.MethodName)) ∈ lw_all := lw_g (lw_at lw_m1 67 rfl) rfl
theorem q185 : (Jvm.Cond.code ({ cls := "java/lang/Throwable", name := "<init>", desc := "()V" } : Jvm.MethodName) prog_31_method_1_code (1 : Nat) (Option.none : Option Jvm.ClassFile.FieldType)) ∈ lw_all := lw_g (lw_at lw_m1 68 rfl) rfl
theorem q186 : (Jvm.Cond.methodLink "java/lang/Throwable" (1 : Nat) ({ cls := "java/lang/Object", name := "<init>", desc := "()V" } : Jvm.MethodName)) ∈ lw_all := lw_g (lw_at lw_m1 69 rfl) rfl
theorem q187 : (Jvm.Cond.fieldLink "java/lang/Throwable" (13 : Nat) "java/lang/Throwable" "UNASSIGNED_STACK" "[Ljava/lang/StackTraceElement;") ∈ lw_all := lw_g (lw_at lw_m1 70 rfl) rfl
theorem q188 : (Jvm.Cond.laysStatic "java/lang/Throwable" "UNASSIGNED_STACK" "[Ljava/lang/StackTraceElement;") ∈ lw_tbl := lw_at lw_m1 71 rfl
theorem q189 : (Jvm.Cond.fieldLink "java/lang/Throwable" (20 : Nat) "java/lang/Throwable" "SUPPRESSED_SENTINEL" "Ljava/util/List;") ∈ lw_all := lw_g (lw_at lw_m1 72 rfl) rfl
theorem q190 : (Jvm.Cond.laysStatic "java/lang/Throwable" "SUPPRESSED_SENTINEL" "Ljava/util/List;") ∈ lw_tbl := lw_at lw_m1 73 rfl
theorem q191 : (Jvm.Cond.methodLink "java/lang/Throwable" (27 : Nat) ({ cls := "java/lang/Throwable", name := "fillInStackTrace", desc := "()Ljava/lang/Throwable;" } : Jvm.MethodName)) ∈ lw_all := lw_g (lw_at lw_m1 74 rfl) rfl
theorem q192 : (Jvm.Cond.instanceMethod ({ cls := "java/lang/Throwable", name := "fillInStackTrace", desc := "()Ljava/lang/Throwable;" } : Jvm.MethodName)) ∈ lw_all := lw_g (lw_at lw_m1 75 rfl) rfl
theorem q193 : (Jvm.Cond.sameMethod "java/lang/Throwable" "java/lang/Throwable" "fillInStackTrace" "()Ljava/lang/Throwable;") ∈ lw_all := lw_g (lw_at lw_m1 76 rfl) rfl
theorem q197 : (Jvm.Cond.codeSync ({ cls := "java/lang/Throwable", name := "fillInStackTrace", desc := "()Ljava/lang/Throwable;" } : Jvm.MethodName) prog_31_method_18_code (1 : Nat) (Option.some (Jvm.ClassFile.FieldType.object "java/lang/Throwable"))) ∈ lw_all := lw_g (lw_at lw_m1 80 rfl) rfl
theorem q198 : (Jvm.Cond.methodLink "java/lang/Throwable" (202 : Nat) ({ cls := "java/lang/Throwable", name := "fillInStackTrace", desc := "(I)Ljava/lang/Throwable;" } : Jvm.MethodName)) ∈ lw_all := lw_g (lw_at lw_m1 81 rfl) rfl
theorem q199 : (Jvm.Cond.privateMethod ({ cls := "java/lang/Throwable", name := "fillInStackTrace", desc := "(I)Ljava/lang/Throwable;" } : Jvm.MethodName)) ∈ lw_tbl := lw_at lw_m1 82 rfl
theorem q200 : (Jvm.Cond.instanceMethod ({ cls := "java/lang/Throwable", name := "fillInStackTrace", desc := "(I)Ljava/lang/Throwable;" } : Jvm.MethodName)) ∈ lw_all := lw_g (lw_at lw_m1 83 rfl) rfl
theorem q201 : (Jvm.Cond.instantiable "java/lang/Throwable" (6 : Nat)) ∈ lw_all := lw_g (lw_at lw_m1 84 rfl) rfl
theorem q202 : (Jvm.Cond.native ({ cls := "java/lang/Throwable", name := "fillInStackTrace", desc := "(I)Ljava/lang/Throwable;" } : Jvm.MethodName)) ∈ lw_all := lw_g (lw_at lw_m1 85 rfl) rfl
theorem q210 : (Jvm.Cond.fieldLink "java/lang/Throwable" (198 : Nat) "java/lang/Throwable" "backtrace" "Ljava/lang/Object;") ∈ lw_all := lw_g (lw_at lw_m1 93 rfl) rfl
theorem q211 : (Jvm.Cond.fieldLink "java/lang/Throwable" (31 : Nat) "java/lang/Throwable" "detailMessage" "Ljava/lang/String;") ∈ lw_all := lw_g (lw_at lw_m1 94 rfl) rfl
theorem q212 : (Jvm.Cond.fieldLink "java/lang/Throwable" (7 : Nat) "java/lang/Throwable" "cause" "Ljava/lang/Throwable;") ∈ lw_all := lw_g (lw_at lw_m1 95 rfl) rfl
theorem q213 : (Jvm.Cond.fieldLink "java/lang/Throwable" (17 : Nat) "java/lang/Throwable" "stackTrace" "[Ljava/lang/StackTraceElement;") ∈ lw_all := lw_g (lw_at lw_m1 96 rfl) rfl
theorem q214 : (Jvm.Cond.fieldLink "java/lang/Throwable" (24 : Nat) "java/lang/Throwable" "suppressedExceptions" "Ljava/util/List;") ∈ lw_all := lw_g (lw_at lw_m1 97 rfl) rfl
theorem q215 : (Jvm.Cond.soleField "java/lang/Throwable" "backtrace") ∈ lw_all := lw_g (lw_at lw_m1 98 rfl) rfl
theorem q216 : (Jvm.Cond.soleField "java/lang/Throwable" "detailMessage") ∈ lw_all := lw_g (lw_at lw_m1 99 rfl) rfl
theorem q217 : (Jvm.Cond.soleField "java/lang/Throwable" "cause") ∈ lw_all := lw_g (lw_at lw_m1 100 rfl) rfl
theorem q218 : (Jvm.Cond.soleField "java/lang/Throwable" "stackTrace") ∈ lw_all := lw_g (lw_at lw_m1 101 rfl) rfl
theorem q220 : (Jvm.Cond.soleField "java/lang/Throwable" "depth") ∈ lw_all := lw_g (lw_at lw_m1 103 rfl) rfl
theorem q221 : (Jvm.Cond.soleField "java/lang/Throwable" "suppressedExceptions") ∈ lw_all := lw_g (lw_at lw_m1 104 rfl) rfl
theorem q1158 : (Jvm.Cond.instanceMethod ({ cls := "java/lang/Throwable", name := "<init>", desc := "(Ljava/lang/Throwable;)V" } : Jvm.MethodName)) ∈ lw_all := lw_g (lw_at lw_m5 81 rfl) rfl
theorem q1159 : (Jvm.Cond.code ({ cls := "java/lang/Throwable", name := "<init>", desc := "(Ljava/lang/Throwable;)V" } : Jvm.MethodName) prog_31_method_4_code (2 : Nat) (Option.none : Option Jvm.ClassFile.FieldType)) ∈ lw_all := lw_g (lw_at lw_m5 82 rfl) rfl
theorem q1160 : (Jvm.Cond.methodLink "java/lang/Throwable" (35 : Nat) ({ cls := "java/lang/Throwable", name := "toString", desc := "()Ljava/lang/String;" } : Jvm.MethodName)) ∈ lw_all := lw_g (lw_at lw_m5 83 rfl) rfl
theorem q1161 : (Jvm.Cond.instanceMethod ({ cls := "java/lang/Throwable", name := "toString", desc := "()Ljava/lang/String;" } : Jvm.MethodName)) ∈ lw_all := lw_g (lw_at lw_m5 84 rfl) rfl
theorem q1162 : (Jvm.Cond.sameMethod "java/lang/Throwable" "java/lang/Throwable" "toString" "()Ljava/lang/String;") ∈ lw_all := lw_g (lw_at lw_m5 85 rfl) rfl
theorem q1167 : (Jvm.Cond.code ({ cls := "java/lang/Throwable", name := "toString", desc := "()Ljava/lang/String;" } : Jvm.MethodName) prog_31_method_11_code (3 : Nat) (Option.some (Jvm.ClassFile.FieldType.object "java/lang/String"))) ∈ lw_all := lw_g (lw_at lw_m5 90 rfl) rfl
theorem q1168 : (Jvm.Cond.methodLink "java/lang/Throwable" (69 : Nat) ({ cls := "java/lang/Object", name := "getClass", desc := "()Ljava/lang/Class;" } : Jvm.MethodName)) ∈ lw_all := lw_g (lw_at lw_m5 91 rfl) rfl
theorem q1189 : (Jvm.Cond.methodLink "java/lang/Throwable" (78 : Nat) ({ cls := "java/lang/Throwable", name := "getLocalizedMessage", desc := "()Ljava/lang/String;" } : Jvm.MethodName)) ∈ lw_all := lw_g (lw_at lw_m5 112 rfl) rfl
theorem q1190 : (Jvm.Cond.instanceMethod ({ cls := "java/lang/Throwable", name := "getLocalizedMessage", desc := "()Ljava/lang/String;" } : Jvm.MethodName)) ∈ lw_all := lw_g (lw_at lw_m5 113 rfl) rfl
theorem q1191 : (Jvm.Cond.sameMethod "java/lang/Throwable" "java/lang/Throwable" "getLocalizedMessage" "()Ljava/lang/String;") ∈ lw_all := lw_g (lw_at lw_m5 114 rfl) rfl
theorem q1196 : (Jvm.Cond.code ({ cls := "java/lang/Throwable", name := "getLocalizedMessage", desc := "()Ljava/lang/String;" } : Jvm.MethodName) prog_31_method_7_code (1 : Nat) (Option.some (Jvm.ClassFile.FieldType.object "java/lang/String"))) ∈ lw_all := lw_g (lw_at lw_m5 119 rfl) rfl
theorem q1197 : (Jvm.Cond.methodLink "java/lang/Throwable" (39 : Nat) ({ cls := "java/lang/Throwable", name := "getMessage", desc := "()Ljava/lang/String;" } : Jvm.MethodName)) ∈ lw_all := lw_g (lw_at lw_m5 120 rfl) rfl
theorem q1198 : (Jvm.Cond.instanceMethod ({ cls := "java/lang/Throwable", name := "getMessage", desc := "()Ljava/lang/String;" } : Jvm.MethodName)) ∈ lw_all := lw_g (lw_at lw_m5 121 rfl) rfl
theorem q1199 : (Jvm.Cond.sameMethod "java/lang/Throwable" "java/lang/Throwable" "getMessage" "()Ljava/lang/String;") ∈ lw_all := lw_g (lw_at lw_m5 122 rfl) rfl
theorem q1204 : (Jvm.Cond.code ({ cls := "java/lang/Throwable", name := "getMessage", desc := "()Ljava/lang/String;" } : Jvm.MethodName) prog_31_method_6_code (1 : Nat) (Option.some (Jvm.ClassFile.FieldType.object "java/lang/String"))) ∈ lw_all := lw_g (lw_at lw_m5 127 rfl) rfl
theorem q1205 : (Jvm.Cond.classLink "java/lang/Throwable" (44 : Nat) "java/lang/StringBuilder") ∈ lw_all := lw_g (lw_at lw_m5 128 rfl) rfl
theorem q1207 : (Jvm.Cond.methodLink "java/lang/Throwable" (46 : Nat) ({ cls := "java/lang/StringBuilder", name := "<init>", desc := "()V" } : Jvm.MethodName)) ∈ lw_all := lw_g (lw_at lw_m5 130 rfl) rfl
theorem q1235 : (Jvm.Cond.methodLink "java/lang/Throwable" (49 : Nat) ({ cls := "java/lang/StringBuilder", name := "append", desc := "(Ljava/lang/String;)Ljava/lang/StringBuilder;" } : Jvm.MethodName)) ∈ lw_all := lw_g (lw_at lw_m5 158 rfl) rfl
theorem q1317 : (Jvm.Cond.stringRef "java/lang/Throwable" (81 : Nat) ": ") ∈ lw_tbl := lw_at lw_m6 0 rfl
theorem q1318 : (Jvm.Cond.methodLink "java/lang/Throwable" (60 : Nat) ({ cls := "java/lang/StringBuilder", name := "toString", desc := "()Ljava/lang/String;" } : Jvm.MethodName)) ∈ lw_all := lw_g (lw_at lw_m6 1 rfl) rfl
theorem q2333 : (Jvm.Cond.sameMethod "java/lang/Throwable" "java/lang/Throwable" "fillInStackTrace" "(I)Ljava/lang/Throwable;") ∈ lw_all := lw_g (lw_at lw_m10 56 rfl) rfl
theorem q2362 : (Jvm.Cond.castable "java/lang/Throwable" "java/lang/Object") ∈ lw_tbl := lw_at lw_m10 85 rfl
theorem in_J0 : ∀ w ∈ wsJ00, w ∈ lw_all := lw_in wsJ00 [173, 175, 177, 179, 181] (by decide +kernel) (by decide +kernel)
/-! java/lang/Exception -/
set_option maxRecDepth 100000
def RJ1 : String := "java/lang/Exception"
abbrev cJ1_init : ByteArray := prog_17_method_1_code
def yJ1_init : MethodName := ⟨RJ1, "<init>", "()V"⟩
theorem dJ1_init_0 : decode cJ1_init 0 = .ok (.aload_n 0, 1) := by decide +kernel
theorem dJ1_init_1 : decode cJ1_init 1 = .ok (.invokespecial 1, 3) := by decide +kernel
theorem dJ1_init_4 : decode cJ1_init 4 = .ok (.return_, 1) := by decide +kernel
abbrev cJ1_init_2 : ByteArray := prog_17_method_4_code
def yJ1_init_2 : MethodName := ⟨RJ1, "<init>", "(Ljava/lang/Throwable;)V"⟩
def dkwJ1_init_2_0 : List UInt8 := [42, 43, 183, 0, 13, 177]
abbrev dktJ1_init_2_0 : List UInt8 := dkwJ1_init_2_0 ++ []
theorem dksJ1_init_2_0 : cJ1_init_2.data.toList.drop 0 = dktJ1_init_2_0 := by decide +kernel
theorem dJ1_init_2_0 : decode cJ1_init_2 0 = .ok (.aload_n 0, 1) := dk_42 (dk_at dksJ1_init_2_0 0 rfl rfl)
theorem dJ1_init_2_1 : decode cJ1_init_2 1 = .ok (.aload_n 1, 1) := dk_43 (dk_at dksJ1_init_2_0 1 rfl rfl)
theorem dJ1_init_2_2 : decode cJ1_init_2 2 = .ok (.invokespecial 13, 3) := dk_183 0 13 (dk_at dksJ1_init_2_0 2 rfl rfl)
theorem dJ1_init_2_5 : decode cJ1_init_2 5 = .ok (.return_, 1) := dk_177 (dk_at dksJ1_init_2_0 5 rfl rfl)
theorem q120 : (Jvm.Cond.initialized "java/lang/Exception") ∈ lw_all := lw_g (lw_at lw_m1 3 rfl) rfl
theorem q166 : (Jvm.Cond.declares ({ cls := "java/lang/Exception", name := "<init>", desc := "()V" } : Jvm.MethodName)) ∈ lw_tbl := lw_at lw_m1 49 rfl
theorem q167 : (Jvm.Cond.declares ({ cls := "java/lang/Exception", name := "<init>", desc := "(Ljava/lang/String;)V" } : Jvm.MethodName)) ∈ lw_tbl := lw_at lw_m1 50 rfl
theorem q207 : (Jvm.Cond.instanceMethod ({ cls := "java/lang/Exception", name := "<init>", desc := "()V" } : Jvm.MethodName)) ∈ lw_all := lw_g (lw_at lw_m1 90 rfl) rfl
theorem q208 : (Jvm.Cond.code ({ cls := "java/lang/Exception", name := "<init>", desc := "()V" } : Jvm.MethodName) prog_17_method_1_code (1 : Nat) (Option.none : Option Jvm.ClassFile.FieldType)) ∈ lw_all := lw_g (lw_at lw_m1 91 rfl) rfl
theorem q209 : (Jvm.Cond.methodLink "java/lang/Exception" (1 : Nat) ({ cls := "java/lang/Throwable", name := "<init>", desc := "()V" } : Jvm.MethodName)) ∈ lw_all := lw_g (lw_at lw_m1 92 rfl) rfl
theorem q1155 : (Jvm.Cond.instanceMethod ({ cls := "java/lang/Exception", name := "<init>", desc := "(Ljava/lang/Throwable;)V" } : Jvm.MethodName)) ∈ lw_all := lw_g (lw_at lw_m5 78 rfl) rfl
theorem q1156 : (Jvm.Cond.code ({ cls := "java/lang/Exception", name := "<init>", desc := "(Ljava/lang/Throwable;)V" } : Jvm.MethodName) prog_17_method_4_code (2 : Nat) (Option.none : Option Jvm.ClassFile.FieldType)) ∈ lw_all := lw_g (lw_at lw_m5 79 rfl) rfl
theorem q1157 : (Jvm.Cond.methodLink "java/lang/Exception" (13 : Nat) ({ cls := "java/lang/Throwable", name := "<init>", desc := "(Ljava/lang/Throwable;)V" } : Jvm.MethodName)) ∈ lw_all := lw_g (lw_at lw_m5 80 rfl) rfl
/-! jdk/internal/util/Preconditions -/
set_option maxRecDepth 100000
def RJ10 : String := "jdk/internal/util/Preconditions"
abbrev cJ10_checkIndex : ByteArray := prog_58_method_11_code
def yJ10_checkIndex : MethodName := ⟨RJ10, "checkIndex", "(IILjava/util/function/BiFunction;)I"⟩
def dkwJ10_checkIndex_0 : List UInt8 := [26, 155, 0, 8, 26, 27, 161, 0, 10, 44, 26, 27, 184, 0, 95, 191, 26, 172]
abbrev dktJ10_checkIndex_0 : List UInt8 := dkwJ10_checkIndex_0 ++ []
theorem dksJ10_checkIndex_0 : cJ10_checkIndex.data.toList.drop 0 = dktJ10_checkIndex_0 := by decide +kernel
theorem dJ10_checkIndex_0 : decode cJ10_checkIndex 0 = .ok (.iload_n 0, 1) := dk_26 (dk_at dksJ10_checkIndex_0 0 rfl rfl)
theorem dJ10_checkIndex_1 : decode cJ10_checkIndex 1 = .ok (.ifCond .lt 8, 3) := dk_155 0 8 (dk_at dksJ10_checkIndex_0 1 rfl rfl)
theorem dJ10_checkIndex_4 : decode cJ10_checkIndex 4 = .ok (.iload_n 0, 1) := dk_26 (dk_at dksJ10_checkIndex_0 4 rfl rfl)
theorem dJ10_checkIndex_5 : decode cJ10_checkIndex 5 = .ok (.iload_n 1, 1) := dk_27 (dk_at dksJ10_checkIndex_0 5 rfl rfl)
theorem dJ10_checkIndex_6 : decode cJ10_checkIndex 6 = .ok (.if_icmp .lt 10, 3) := dk_161 0 10 (dk_at dksJ10_checkIndex_0 6 rfl rfl)
theorem dJ10_checkIndex_9 : decode cJ10_checkIndex 9 = .ok (.aload_n 2, 1) := dk_44 (dk_at dksJ10_checkIndex_0 9 rfl rfl)
theorem dJ10_checkIndex_10 : decode cJ10_checkIndex 10 = .ok (.iload_n 0, 1) := dk_26 (dk_at dksJ10_checkIndex_0 10 rfl rfl)
theorem dJ10_checkIndex_11 : decode cJ10_checkIndex 11 = .ok (.iload_n 1, 1) := dk_27 (dk_at dksJ10_checkIndex_0 11 rfl rfl)
theorem dJ10_checkIndex_12 : decode cJ10_checkIndex 12 = .ok (.invokestatic 95, 3) := dk_184 0 95 (dk_at dksJ10_checkIndex_0 12 rfl rfl)
theorem dJ10_checkIndex_15 : decode cJ10_checkIndex 15 = .ok (.athrow, 1) := dk_191 (dk_at dksJ10_checkIndex_0 15 rfl rfl)
theorem dJ10_checkIndex_16 : decode cJ10_checkIndex 16 = .ok (.iload_n 0, 1) := dk_26 (dk_at dksJ10_checkIndex_0 16 rfl rfl)
theorem dJ10_checkIndex_17 : decode cJ10_checkIndex 17 = .ok (.ireturn, 1) := dk_172 (dk_at dksJ10_checkIndex_0 17 rfl rfl)
abbrev cJ10_checkFromToIndex : ByteArray := prog_58_method_12_code
def yJ10_checkFromToIndex : MethodName := ⟨RJ10, "checkFromToIndex", "(IIILjava/util/function/BiFunction;)I"⟩
def dkwJ10_checkFromToIndex_0 : List UInt8 := [26, 155, 0, 13, 26, 27, 163, 0, 8, 27, 28, 164, 0, 11, 45, 26, 27, 28, 184, 0, 99, 191, 26, 172]
abbrev dktJ10_checkFromToIndex_0 : List UInt8 := dkwJ10_checkFromToIndex_0 ++ []
theorem dksJ10_checkFromToIndex_0 : cJ10_checkFromToIndex.data.toList.drop 0 = dktJ10_checkFromToIndex_0 := by decide +kernel
theorem dJ10_checkFromToIndex_0 : decode cJ10_checkFromToIndex 0 = .ok (.iload_n 0, 1) := dk_26 (dk_at dksJ10_checkFromToIndex_0 0 rfl rfl)
theorem dJ10_checkFromToIndex_1 : decode cJ10_checkFromToIndex 1 = .ok (.ifCond .lt 13, 3) := dk_155 0 13 (dk_at dksJ10_checkFromToIndex_0 1 rfl rfl)
theorem dJ10_checkFromToIndex_4 : decode cJ10_checkFromToIndex 4 = .ok (.iload_n 0, 1) := dk_26 (dk_at dksJ10_checkFromToIndex_0 4 rfl rfl)
theorem dJ10_checkFromToIndex_5 : decode cJ10_checkFromToIndex 5 = .ok (.iload_n 1, 1) := dk_27 (dk_at dksJ10_checkFromToIndex_0 5 rfl rfl)
theorem dJ10_checkFromToIndex_6 : decode cJ10_checkFromToIndex 6 = .ok (.if_icmp .gt 8, 3) := dk_163 0 8 (dk_at dksJ10_checkFromToIndex_0 6 rfl rfl)
theorem dJ10_checkFromToIndex_9 : decode cJ10_checkFromToIndex 9 = .ok (.iload_n 1, 1) := dk_27 (dk_at dksJ10_checkFromToIndex_0 9 rfl rfl)
theorem dJ10_checkFromToIndex_10 : decode cJ10_checkFromToIndex 10 = .ok (.iload_n 2, 1) := dk_28 (dk_at dksJ10_checkFromToIndex_0 10 rfl rfl)
theorem dJ10_checkFromToIndex_11 : decode cJ10_checkFromToIndex 11 = .ok (.if_icmp .le 11, 3) := dk_164 0 11 (dk_at dksJ10_checkFromToIndex_0 11 rfl rfl)
theorem dJ10_checkFromToIndex_14 : decode cJ10_checkFromToIndex 14 = .ok (.aload_n 3, 1) := dk_45 (dk_at dksJ10_checkFromToIndex_0 14 rfl rfl)
theorem dJ10_checkFromToIndex_15 : decode cJ10_checkFromToIndex 15 = .ok (.iload_n 0, 1) := dk_26 (dk_at dksJ10_checkFromToIndex_0 15 rfl rfl)
theorem dJ10_checkFromToIndex_16 : decode cJ10_checkFromToIndex 16 = .ok (.iload_n 1, 1) := dk_27 (dk_at dksJ10_checkFromToIndex_0 16 rfl rfl)
theorem dJ10_checkFromToIndex_17 : decode cJ10_checkFromToIndex 17 = .ok (.iload_n 2, 1) := dk_28 (dk_at dksJ10_checkFromToIndex_0 17 rfl rfl)
theorem dJ10_checkFromToIndex_18 : decode cJ10_checkFromToIndex 18 = .ok (.invokestatic 99, 3) := dk_184 0 99 (dk_at dksJ10_checkFromToIndex_0 18 rfl rfl)
theorem dJ10_checkFromToIndex_21 : decode cJ10_checkFromToIndex 21 = .ok (.athrow, 1) := dk_191 (dk_at dksJ10_checkFromToIndex_0 21 rfl rfl)
theorem dJ10_checkFromToIndex_22 : decode cJ10_checkFromToIndex 22 = .ok (.iload_n 0, 1) := dk_26 (dk_at dksJ10_checkFromToIndex_0 22 rfl rfl)
theorem dJ10_checkFromToIndex_23 : decode cJ10_checkFromToIndex 23 = .ok (.ireturn, 1) := dk_172 (dk_at dksJ10_checkFromToIndex_0 23 rfl rfl)
abbrev cJ10_checkFromIndexSize : ByteArray := prog_58_method_13_code
def yJ10_checkFromIndexSize : MethodName := ⟨RJ10, "checkFromIndexSize", "(IIILjava/util/function/BiFunction;)I"⟩
def dkwJ10_checkFromIndexSize_1 : List UInt8 := [172]
abbrev dktJ10_checkFromIndexSize_1 : List UInt8 := dkwJ10_checkFromIndexSize_1 ++ []
def dkwJ10_checkFromIndexSize_0 : List UInt8 := [28, 26, 128, 27, 128, 155, 0, 10, 27, 28, 26, 100, 164, 0, 11, 45, 26, 27, 28, 184, 0, 103, 191, 26]
abbrev dktJ10_checkFromIndexSize_0 : List UInt8 := dkwJ10_checkFromIndexSize_0 ++ dktJ10_checkFromIndexSize_1
theorem dksJ10_checkFromIndexSize_0 : cJ10_checkFromIndexSize.data.toList.drop 0 = dktJ10_checkFromIndexSize_0 := by decide +kernel
theorem dksJ10_checkFromIndexSize_1 : cJ10_checkFromIndexSize.data.toList.drop 24 = dktJ10_checkFromIndexSize_1 := dk_seg dksJ10_checkFromIndexSize_0 24 rfl rfl
theorem dJ10_checkFromIndexSize_0 : decode cJ10_checkFromIndexSize 0 = .ok (.iload_n 2, 1) := dk_28 (dk_at dksJ10_checkFromIndexSize_0 0 rfl rfl)
theorem dJ10_checkFromIndexSize_1 : decode cJ10_checkFromIndexSize 1 = .ok (.iload_n 0, 1) := dk_26 (dk_at dksJ10_checkFromIndexSize_0 1 rfl rfl)
theorem dJ10_checkFromIndexSize_2 : decode cJ10_checkFromIndexSize 2 = .ok (.ior, 1) := dk_128 (dk_at dksJ10_checkFromIndexSize_0 2 rfl rfl)
theorem dJ10_checkFromIndexSize_3 : decode cJ10_checkFromIndexSize 3 = .ok (.iload_n 1, 1) := dk_27 (dk_at dksJ10_checkFromIndexSize_0 3 rfl rfl)
theorem dJ10_checkFromIndexSize_4 : decode cJ10_checkFromIndexSize 4 = .ok (.ior, 1) := dk_128 (dk_at dksJ10_checkFromIndexSize_0 4 rfl rfl)
theorem dJ10_checkFromIndexSize_5 : decode cJ10_checkFromIndexSize 5 = .ok (.ifCond .lt 10, 3) := dk_155 0 10 (dk_at dksJ10_checkFromIndexSize_0 5 rfl rfl)
theorem dJ10_checkFromIndexSize_8 : decode cJ10_checkFromIndexSize 8 = .ok (.iload_n 1, 1) := dk_27 (dk_at dksJ10_checkFromIndexSize_0 8 rfl rfl)
theorem dJ10_checkFromIndexSize_9 : decode cJ10_checkFromIndexSize 9 = .ok (.iload_n 2, 1) := dk_28 (dk_at dksJ10_checkFromIndexSize_0 9 rfl rfl)
theorem dJ10_checkFromIndexSize_10 : decode cJ10_checkFromIndexSize 10 = .ok (.iload_n 0, 1) := dk_26 (dk_at dksJ10_checkFromIndexSize_0 10 rfl rfl)
theorem dJ10_checkFromIndexSize_11 : decode cJ10_checkFromIndexSize 11 = .ok (.isub, 1) := dk_100 (dk_at dksJ10_checkFromIndexSize_0 11 rfl rfl)
theorem dJ10_checkFromIndexSize_12 : decode cJ10_checkFromIndexSize 12 = .ok (.if_icmp .le 11, 3) := dk_164 0 11 (dk_at dksJ10_checkFromIndexSize_0 12 rfl rfl)
theorem dJ10_checkFromIndexSize_15 : decode cJ10_checkFromIndexSize 15 = .ok (.aload_n 3, 1) := dk_45 (dk_at dksJ10_checkFromIndexSize_0 15 rfl rfl)
theorem dJ10_checkFromIndexSize_16 : decode cJ10_checkFromIndexSize 16 = .ok (.iload_n 0, 1) := dk_26 (dk_at dksJ10_checkFromIndexSize_0 16 rfl rfl)
theorem dJ10_checkFromIndexSize_17 : decode cJ10_checkFromIndexSize 17 = .ok (.iload_n 1, 1) := dk_27 (dk_at dksJ10_checkFromIndexSize_0 17 rfl rfl)
theorem dJ10_checkFromIndexSize_18 : decode cJ10_checkFromIndexSize 18 = .ok (.iload_n 2, 1) := dk_28 (dk_at dksJ10_checkFromIndexSize_0 18 rfl rfl)
theorem dJ10_checkFromIndexSize_19 : decode cJ10_checkFromIndexSize 19 = .ok (.invokestatic 103, 3) := dk_184 0 103 (dk_at dksJ10_checkFromIndexSize_0 19 rfl rfl)
theorem dJ10_checkFromIndexSize_22 : decode cJ10_checkFromIndexSize 22 = .ok (.athrow, 1) := dk_191 (dk_at dksJ10_checkFromIndexSize_0 22 rfl rfl)
theorem dJ10_checkFromIndexSize_23 : decode cJ10_checkFromIndexSize 23 = .ok (.iload_n 0, 1) := dk_26 (dk_at dksJ10_checkFromIndexSize_0 23 rfl rfl)
theorem dJ10_checkFromIndexSize_24 : decode cJ10_checkFromIndexSize 24 = .ok (.ireturn, 1) := dk_172 (dk_at dksJ10_checkFromIndexSize_1 0 rfl rfl)
theorem q132 : (Jvm.Cond.initialized "jdk/internal/util/Preconditions") ∈ lw_all := lw_g (lw_at lw_m1 15 rfl) rfl
theorem q387 : (Jvm.Cond.laysStatic "jdk/internal/util/Preconditions" "SIOOBE_FORMATTER" "Ljava/util/function/BiFunction;") ∈ lw_tbl := lw_at lw_m2 30 rfl
theorem q389 : (Jvm.Cond.static ({ cls := "jdk/internal/util/Preconditions", name := "checkIndex", desc := "(IILjava/util/function/BiFunction;)I" } : Jvm.MethodName)) ∈ lw_all := lw_g (lw_at lw_m2 32 rfl) rfl
theorem q390 : (Jvm.Cond.code ({ cls := "jdk/internal/util/Preconditions", name := "checkIndex", desc := "(IILjava/util/function/BiFunction;)I" } : Jvm.MethodName) prog_58_method_11_code (3 : Nat) (Option.some Jvm.ClassFile.FieldType.int)) ∈ lw_all := lw_g (lw_at lw_m2 33 rfl) rfl
theorem q638 : (Jvm.Cond.static ({ cls := "jdk/internal/util/Preconditions", name := "checkFromToIndex", desc := "(IIILjava/util/function/BiFunction;)I" } : Jvm.MethodName)) ∈ lw_all := lw_g (lw_at lw_m3 41 rfl) rfl
theorem q639 : (Jvm.Cond.code ({ cls := "jdk/internal/util/Preconditions", name := "checkFromToIndex", desc := "(IIILjava/util/function/BiFunction;)I" } : Jvm.MethodName) prog_58_method_12_code (4 : Nat) (Option.some Jvm.ClassFile.FieldType.int)) ∈ lw_all := lw_g (lw_at lw_m3 42 rfl) rfl
theorem q1309 : (Jvm.Cond.static ({ cls := "jdk/internal/util/Preconditions", name := "checkFromIndexSize", desc := "(IIILjava/util/function/BiFunction;)I" } : Jvm.MethodName)) ∈ lw_all := lw_g (lw_at lw_m5 232 rfl) rfl
theorem q1310 : (Jvm.Cond.code ({ cls := "jdk/internal/util/Preconditions", name := "checkFromIndexSize", desc := "(IIILjava/util/function/BiFunction;)I" } : Jvm.MethodName) prog_58_method_13_code (4 : Nat) (Option.some Jvm.ClassFile.FieldType.int)) ∈ lw_all := lw_g (lw_at lw_m5 233 rfl) rfl
/-! java/lang/StringUTF16 -/
set_option maxRecDepth 100000
def RJ11 : String := "java/lang/StringUTF16"
abbrev cJ11_charAt : ByteArray := prog_29_method_83_code
def yJ11_charAt : MethodName := ⟨RJ11, "charAt", "([BI)C"⟩
def dkwJ11_charAt_0 : List UInt8 := [27, 42, 184, 0, 67, 42, 27, 184, 0, 71, 172]
abbrev dktJ11_charAt_0 : List UInt8 := dkwJ11_charAt_0 ++ []
theorem dksJ11_charAt_0 : cJ11_charAt.data.toList.drop 0 = dktJ11_charAt_0 := by decide +kernel
theorem dJ11_charAt_0 : decode cJ11_charAt 0 = .ok (.iload_n 1, 1) := dk_27 (dk_at dksJ11_charAt_0 0 rfl rfl)
theorem dJ11_charAt_1 : decode cJ11_charAt 1 = .ok (.aload_n 0, 1) := dk_42 (dk_at dksJ11_charAt_0 1 rfl rfl)
theorem dJ11_charAt_2 : decode cJ11_charAt 2 = .ok (.invokestatic 67, 3) := dk_184 0 67 (dk_at dksJ11_charAt_0 2 rfl rfl)
theorem dJ11_charAt_5 : decode cJ11_charAt 5 = .ok (.aload_n 0, 1) := dk_42 (dk_at dksJ11_charAt_0 5 rfl rfl)
theorem dJ11_charAt_6 : decode cJ11_charAt 6 = .ok (.iload_n 1, 1) := dk_27 (dk_at dksJ11_charAt_0 6 rfl rfl)
theorem dJ11_charAt_7 : decode cJ11_charAt 7 = .ok (.invokestatic 71, 3) := dk_184 0 71 (dk_at dksJ11_charAt_0 7 rfl rfl)
theorem dJ11_charAt_10 : decode cJ11_charAt 10 = .ok (.ireturn, 1) := dk_172 (dk_at dksJ11_charAt_0 10 rfl rfl)
abbrev cJ11_checkIndex : ByteArray := prog_29_method_91_code
def yJ11_checkIndex : MethodName := ⟨RJ11, "checkIndex", "(I[B)V"⟩
def dkwJ11_checkIndex_0 : List UInt8 := [26, 43, 184, 0, 48, 184, 1, 158, 177]
abbrev dktJ11_checkIndex_0 : List UInt8 := dkwJ11_checkIndex_0 ++ []
theorem dksJ11_checkIndex_0 : cJ11_checkIndex.data.toList.drop 0 = dktJ11_checkIndex_0 := by decide +kernel
theorem dJ11_checkIndex_0 : decode cJ11_checkIndex 0 = .ok (.iload_n 0, 1) := dk_26 (dk_at dksJ11_checkIndex_0 0 rfl rfl)
theorem dJ11_checkIndex_1 : decode cJ11_checkIndex 1 = .ok (.aload_n 1, 1) := dk_43 (dk_at dksJ11_checkIndex_0 1 rfl rfl)
theorem dJ11_checkIndex_2 : decode cJ11_checkIndex 2 = .ok (.invokestatic 48, 3) := dk_184 0 48 (dk_at dksJ11_checkIndex_0 2 rfl rfl)
theorem dJ11_checkIndex_5 : decode cJ11_checkIndex 5 = .ok (.invokestatic 414, 3) := dk_184 1 158 (dk_at dksJ11_checkIndex_0 5 rfl rfl)
theorem dJ11_checkIndex_8 : decode cJ11_checkIndex 8 = .ok (.return_, 1) := dk_177 (dk_at dksJ11_checkIndex_0 8 rfl rfl)
abbrev cJ11_length : ByteArray := prog_29_method_6_code
def yJ11_length : MethodName := ⟨RJ11, "length", "([B)I"⟩
def dkwJ11_length_0 : List UInt8 := [42, 190, 4, 122, 172]
abbrev dktJ11_length_0 : List UInt8 := dkwJ11_length_0 ++ []
theorem dksJ11_length_0 : cJ11_length.data.toList.drop 0 = dktJ11_length_0 := by decide +kernel
theorem dJ11_length_0 : decode cJ11_length 0 = .ok (.aload_n 0, 1) := dk_42 (dk_at dksJ11_length_0 0 rfl rfl)
theorem dJ11_length_1 : decode cJ11_length 1 = .ok (.arraylength, 1) := dk_190 (dk_at dksJ11_length_0 1 rfl rfl)
theorem dJ11_length_2 : decode cJ11_length 2 = .ok (.iconst 1, 1) := dk_4 (dk_at dksJ11_length_0 2 rfl rfl)
theorem dJ11_length_3 : decode cJ11_length 3 = .ok (.ishr, 1) := dk_122 (dk_at dksJ11_length_0 3 rfl rfl)
theorem dJ11_length_4 : decode cJ11_length 4 = .ok (.ireturn, 1) := dk_172 (dk_at dksJ11_length_0 4 rfl rfl)
abbrev cJ11_getChar : ByteArray := prog_29_method_5_code
def yJ11_getChar : MethodName := ⟨RJ11, "getChar", "([BI)C"⟩
def dkwJ11_getChar_2 : List UInt8 := [51, 17, 0, 255, 126, 178, 0, 63, 120, 128, 146, 172]
abbrev dktJ11_getChar_2 : List UInt8 := dkwJ11_getChar_2 ++ []
def dkwJ11_getChar_1 : List UInt8 := [183, 0, 56, 191, 27, 4, 120, 60, 42, 27, 132, 1, 1, 51, 17, 0, 255, 126, 178, 0, 59, 120, 42, 27]
abbrev dktJ11_getChar_1 : List UInt8 := dkwJ11_getChar_1 ++ dktJ11_getChar_2
def dkwJ11_getChar_0 : List UInt8 := [178, 0, 44, 154, 0, 25, 27, 155, 0, 11, 27, 42, 184, 0, 48, 161, 0, 13, 187, 0, 52, 89, 18, 54]
abbrev dktJ11_getChar_0 : List UInt8 := dkwJ11_getChar_0 ++ dktJ11_getChar_1
theorem dksJ11_getChar_0 : cJ11_getChar.data.toList.drop 0 = dktJ11_getChar_0 := by decide +kernel
theorem dksJ11_getChar_1 : cJ11_getChar.data.toList.drop 24 = dktJ11_getChar_1 := dk_seg dksJ11_getChar_0 24 rfl rfl
theorem dksJ11_getChar_2 : cJ11_getChar.data.toList.drop 48 = dktJ11_getChar_2 := dk_seg dksJ11_getChar_1 24 rfl rfl
theorem dJ11_getChar_0 : decode cJ11_getChar 0 = .ok (.getstatic 44, 3) := dk_178 0 44 (dk_at dksJ11_getChar_0 0 rfl rfl)
theorem dJ11_getChar_3 : decode cJ11_getChar 3 = .ok (.ifCond .ne 25, 3) := dk_154 0 25 (dk_at dksJ11_getChar_0 3 rfl rfl)
theorem dJ11_getChar_6 : decode cJ11_getChar 6 = .ok (.iload_n 1, 1) := dk_27 (dk_at dksJ11_getChar_0 6 rfl rfl)
theorem dJ11_getChar_7 : decode cJ11_getChar 7 = .ok (.ifCond .lt 11, 3) := dk_155 0 11 (dk_at dksJ11_getChar_0 7 rfl rfl)
theorem dJ11_getChar_10 : decode cJ11_getChar 10 = .ok (.iload_n 1, 1) := dk_27 (dk_at dksJ11_getChar_0 10 rfl rfl)
theorem dJ11_getChar_11 : decode cJ11_getChar 11 = .ok (.aload_n 0, 1) := dk_42 (dk_at dksJ11_getChar_0 11 rfl rfl)
theorem dJ11_getChar_12 : decode cJ11_getChar 12 = .ok (.invokestatic 48, 3) := dk_184 0 48 (dk_at dksJ11_getChar_0 12 rfl rfl)
theorem dJ11_getChar_15 : decode cJ11_getChar 15 = .ok (.if_icmp .lt 13, 3) := dk_161 0 13 (dk_at dksJ11_getChar_0 15 rfl rfl)
theorem dJ11_getChar_18 : decode cJ11_getChar 18 = .ok (.new 52, 3) := dk_187 0 52 (dk_at dksJ11_getChar_0 18 rfl rfl)
theorem dJ11_getChar_21 : decode cJ11_getChar 21 = .ok (.dup, 1) := dk_89 (dk_at dksJ11_getChar_0 21 rfl rfl)
theorem dJ11_getChar_22 : decode cJ11_getChar 22 = .ok (.ldc 54, 2) := dk_18 54 (dk_at dksJ11_getChar_0 22 rfl rfl)
theorem dJ11_getChar_24 : decode cJ11_getChar 24 = .ok (.invokespecial 56, 3) := dk_183 0 56 (dk_at dksJ11_getChar_1 0 rfl rfl)
theorem dJ11_getChar_27 : decode cJ11_getChar 27 = .ok (.athrow, 1) := dk_191 (dk_at dksJ11_getChar_1 3 rfl rfl)
theorem dJ11_getChar_28 : decode cJ11_getChar 28 = .ok (.iload_n 1, 1) := dk_27 (dk_at dksJ11_getChar_1 4 rfl rfl)
theorem dJ11_getChar_29 : decode cJ11_getChar 29 = .ok (.iconst 1, 1) := dk_4 (dk_at dksJ11_getChar_1 5 rfl rfl)
theorem dJ11_getChar_30 : decode cJ11_getChar 30 = .ok (.ishl, 1) := dk_120 (dk_at dksJ11_getChar_1 6 rfl rfl)
theorem dJ11_getChar_31 : decode cJ11_getChar 31 = .ok (.istore_n 1, 1) := dk_60 (dk_at dksJ11_getChar_1 7 rfl rfl)
theorem dJ11_getChar_32 : decode cJ11_getChar 32 = .ok (.aload_n 0, 1) := dk_42 (dk_at dksJ11_getChar_1 8 rfl rfl)
theorem dJ11_getChar_33 : decode cJ11_getChar 33 = .ok (.iload_n 1, 1) := dk_27 (dk_at dksJ11_getChar_1 9 rfl rfl)
theorem dJ11_getChar_34 : decode cJ11_getChar 34 = .ok (.iinc 1 1, 3) := dk_132 1 1 (dk_at dksJ11_getChar_1 10 rfl rfl)
theorem dJ11_getChar_37 : decode cJ11_getChar 37 = .ok (.baload, 1) := dk_51 (dk_at dksJ11_getChar_1 13 rfl rfl)
theorem dJ11_getChar_38 : decode cJ11_getChar 38 = .ok (.sipush 255, 3) := dk_17 0 255 (dk_at dksJ11_getChar_1 14 rfl rfl)
theorem dJ11_getChar_41 : decode cJ11_getChar 41 = .ok (.iand, 1) := dk_126 (dk_at dksJ11_getChar_1 17 rfl rfl)
theorem dJ11_getChar_42 : decode cJ11_getChar 42 = .ok (.getstatic 59, 3) := dk_178 0 59 (dk_at dksJ11_getChar_1 18 rfl rfl)
theorem dJ11_getChar_45 : decode cJ11_getChar 45 = .ok (.ishl, 1) := dk_120 (dk_at dksJ11_getChar_1 21 rfl rfl)
theorem dJ11_getChar_46 : decode cJ11_getChar 46 = .ok (.aload_n 0, 1) := dk_42 (dk_at dksJ11_getChar_1 22 rfl rfl)
theorem dJ11_getChar_47 : decode cJ11_getChar 47 = .ok (.iload_n 1, 1) := dk_27 (dk_at dksJ11_getChar_1 23 rfl rfl)
theorem dJ11_getChar_48 : decode cJ11_getChar 48 = .ok (.baload, 1) := dk_51 (dk_at dksJ11_getChar_2 0 rfl rfl)
theorem dJ11_getChar_49 : decode cJ11_getChar 49 = .ok (.sipush 255, 3) := dk_17 0 255 (dk_at dksJ11_getChar_2 1 rfl rfl)
theorem dJ11_getChar_52 : decode cJ11_getChar 52 = .ok (.iand, 1) := dk_126 (dk_at dksJ11_getChar_2 4 rfl rfl)
theorem dJ11_getChar_53 : decode cJ11_getChar 53 = .ok (.getstatic 63, 3) := dk_178 0 63 (dk_at dksJ11_getChar_2 5 rfl rfl)
theorem dJ11_getChar_56 : decode cJ11_getChar 56 = .ok (.ishl, 1) := dk_120 (dk_at dksJ11_getChar_2 8 rfl rfl)
theorem dJ11_getChar_57 : decode cJ11_getChar 57 = .ok (.ior, 1) := dk_128 (dk_at dksJ11_getChar_2 9 rfl rfl)
theorem dJ11_getChar_58 : decode cJ11_getChar 58 = .ok (.i2c, 1) := dk_146 (dk_at dksJ11_getChar_2 10 rfl rfl)
theorem dJ11_getChar_59 : decode cJ11_getChar 59 = .ok (.ireturn, 1) := dk_172 (dk_at dksJ11_getChar_2 11 rfl rfl)
abbrev cJ11_indexOf : ByteArray := prog_29_method_40_code
def yJ11_indexOf : MethodName := ⟨RJ11, "indexOf", "([BIII)I"⟩
def dkwJ11_indexOf_1 : List UInt8 := [18, 227, 162, 0, 11, 42, 27, 28, 29, 184, 0, 228, 172, 42, 27, 28, 29, 184, 0, 232, 172]
abbrev dktJ11_indexOf_1 : List UInt8 := dkwJ11_indexOf_1 ++ []
def dkwJ11_indexOf_0 : List UInt8 := [28, 3, 184, 0, 224, 61, 29, 42, 190, 4, 122, 184, 0, 183, 62, 28, 29, 161, 0, 5, 2, 172, 27]
abbrev dktJ11_indexOf_0 : List UInt8 := dkwJ11_indexOf_0 ++ dktJ11_indexOf_1
theorem dksJ11_indexOf_0 : cJ11_indexOf.data.toList.drop 0 = dktJ11_indexOf_0 := by decide +kernel
theorem dksJ11_indexOf_1 : cJ11_indexOf.data.toList.drop 23 = dktJ11_indexOf_1 := dk_seg dksJ11_indexOf_0 23 rfl rfl
theorem dJ11_indexOf_0 : decode cJ11_indexOf 0 = .ok (.iload_n 2, 1) := dk_28 (dk_at dksJ11_indexOf_0 0 rfl rfl)
theorem dJ11_indexOf_1 : decode cJ11_indexOf 1 = .ok (.iconst 0, 1) := dk_3 (dk_at dksJ11_indexOf_0 1 rfl rfl)
theorem dJ11_indexOf_2 : decode cJ11_indexOf 2 = .ok (.invokestatic 224, 3) := dk_184 0 224 (dk_at dksJ11_indexOf_0 2 rfl rfl)
theorem dJ11_indexOf_5 : decode cJ11_indexOf 5 = .ok (.istore_n 2, 1) := dk_61 (dk_at dksJ11_indexOf_0 5 rfl rfl)
theorem dJ11_indexOf_6 : decode cJ11_indexOf 6 = .ok (.iload_n 3, 1) := dk_29 (dk_at dksJ11_indexOf_0 6 rfl rfl)
theorem dJ11_indexOf_7 : decode cJ11_indexOf 7 = .ok (.aload_n 0, 1) := dk_42 (dk_at dksJ11_indexOf_0 7 rfl rfl)
theorem dJ11_indexOf_8 : decode cJ11_indexOf 8 = .ok (.arraylength, 1) := dk_190 (dk_at dksJ11_indexOf_0 8 rfl rfl)
theorem dJ11_indexOf_9 : decode cJ11_indexOf 9 = .ok (.iconst 1, 1) := dk_4 (dk_at dksJ11_indexOf_0 9 rfl rfl)
theorem dJ11_indexOf_10 : decode cJ11_indexOf 10 = .ok (.ishr, 1) := dk_122 (dk_at dksJ11_indexOf_0 10 rfl rfl)
theorem dJ11_indexOf_11 : decode cJ11_indexOf 11 = .ok (.invokestatic 183, 3) := dk_184 0 183 (dk_at dksJ11_indexOf_0 11 rfl rfl)
theorem dJ11_indexOf_14 : decode cJ11_indexOf 14 = .ok (.istore_n 3, 1) := dk_62 (dk_at dksJ11_indexOf_0 14 rfl rfl)
theorem dJ11_indexOf_15 : decode cJ11_indexOf 15 = .ok (.iload_n 2, 1) := dk_28 (dk_at dksJ11_indexOf_0 15 rfl rfl)
theorem dJ11_indexOf_16 : decode cJ11_indexOf 16 = .ok (.iload_n 3, 1) := dk_29 (dk_at dksJ11_indexOf_0 16 rfl rfl)
theorem dJ11_indexOf_17 : decode cJ11_indexOf 17 = .ok (.if_icmp .lt 5, 3) := dk_161 0 5 (dk_at dksJ11_indexOf_0 17 rfl rfl)
theorem dJ11_indexOf_20 : decode cJ11_indexOf 20 = .ok (.iconst (-1), 1) := dk_2 (dk_at dksJ11_indexOf_0 20 rfl rfl)
theorem dJ11_indexOf_21 : decode cJ11_indexOf 21 = .ok (.ireturn, 1) := dk_172 (dk_at dksJ11_indexOf_0 21 rfl rfl)
theorem dJ11_indexOf_22 : decode cJ11_indexOf 22 = .ok (.iload_n 1, 1) := dk_27 (dk_at dksJ11_indexOf_0 22 rfl rfl)
theorem dJ11_indexOf_23 : decode cJ11_indexOf 23 = .ok (.ldc 227, 2) := dk_18 227 (dk_at dksJ11_indexOf_1 0 rfl rfl)
theorem dJ11_indexOf_25 : decode cJ11_indexOf 25 = .ok (.if_icmp .ge 11, 3) := dk_162 0 11 (dk_at dksJ11_indexOf_1 2 rfl rfl)
theorem dJ11_indexOf_28 : decode cJ11_indexOf 28 = .ok (.aload_n 0, 1) := dk_42 (dk_at dksJ11_indexOf_1 5 rfl rfl)
theorem dJ11_indexOf_29 : decode cJ11_indexOf 29 = .ok (.iload_n 1, 1) := dk_27 (dk_at dksJ11_indexOf_1 6 rfl rfl)
theorem dJ11_indexOf_30 : decode cJ11_indexOf 30 = .ok (.iload_n 2, 1) := dk_28 (dk_at dksJ11_indexOf_1 7 rfl rfl)
theorem dJ11_indexOf_31 : decode cJ11_indexOf 31 = .ok (.iload_n 3, 1) := dk_29 (dk_at dksJ11_indexOf_1 8 rfl rfl)
theorem dJ11_indexOf_32 : decode cJ11_indexOf 32 = .ok (.invokestatic 228, 3) := dk_184 0 228 (dk_at dksJ11_indexOf_1 9 rfl rfl)
theorem dJ11_indexOf_35 : decode cJ11_indexOf 35 = .ok (.ireturn, 1) := dk_172 (dk_at dksJ11_indexOf_1 12 rfl rfl)
theorem dJ11_indexOf_36 : decode cJ11_indexOf 36 = .ok (.aload_n 0, 1) := dk_42 (dk_at dksJ11_indexOf_1 13 rfl rfl)
theorem dJ11_indexOf_37 : decode cJ11_indexOf 37 = .ok (.iload_n 1, 1) := dk_27 (dk_at dksJ11_indexOf_1 14 rfl rfl)
theorem dJ11_indexOf_38 : decode cJ11_indexOf 38 = .ok (.iload_n 2, 1) := dk_28 (dk_at dksJ11_indexOf_1 15 rfl rfl)
theorem dJ11_indexOf_39 : decode cJ11_indexOf 39 = .ok (.iload_n 3, 1) := dk_29 (dk_at dksJ11_indexOf_1 16 rfl rfl)
theorem dJ11_indexOf_40 : decode cJ11_indexOf 40 = .ok (.invokestatic 232, 3) := dk_184 0 232 (dk_at dksJ11_indexOf_1 17 rfl rfl)
theorem dJ11_indexOf_43 : decode cJ11_indexOf 43 = .ok (.ireturn, 1) := dk_172 (dk_at dksJ11_indexOf_1 20 rfl rfl)
abbrev cJ11_indexOfChar : ByteArray := prog_29_method_47_code
def yJ11_indexOfChar : MethodName := ⟨RJ11, "indexOfChar", "([BIII)I"⟩
def dkwJ11_indexOfChar_0 : List UInt8 := [28, 29, 42, 184, 0, 96, 42, 27, 28, 29, 184, 0, 244, 172]
abbrev dktJ11_indexOfChar_0 : List UInt8 := dkwJ11_indexOfChar_0 ++ []
theorem dksJ11_indexOfChar_0 : cJ11_indexOfChar.data.toList.drop 0 = dktJ11_indexOfChar_0 := by decide +kernel
theorem dJ11_indexOfChar_0 : decode cJ11_indexOfChar 0 = .ok (.iload_n 2, 1) := dk_28 (dk_at dksJ11_indexOfChar_0 0 rfl rfl)
theorem dJ11_indexOfChar_1 : decode cJ11_indexOfChar 1 = .ok (.iload_n 3, 1) := dk_29 (dk_at dksJ11_indexOfChar_0 1 rfl rfl)
theorem dJ11_indexOfChar_2 : decode cJ11_indexOfChar 2 = .ok (.aload_n 0, 1) := dk_42 (dk_at dksJ11_indexOfChar_0 2 rfl rfl)
theorem dJ11_indexOfChar_3 : decode cJ11_indexOfChar 3 = .ok (.invokestatic 96, 3) := dk_184 0 96 (dk_at dksJ11_indexOfChar_0 3 rfl rfl)
theorem dJ11_indexOfChar_6 : decode cJ11_indexOfChar 6 = .ok (.aload_n 0, 1) := dk_42 (dk_at dksJ11_indexOfChar_0 6 rfl rfl)
theorem dJ11_indexOfChar_7 : decode cJ11_indexOfChar 7 = .ok (.iload_n 1, 1) := dk_27 (dk_at dksJ11_indexOfChar_0 7 rfl rfl)
theorem dJ11_indexOfChar_8 : decode cJ11_indexOfChar 8 = .ok (.iload_n 2, 1) := dk_28 (dk_at dksJ11_indexOfChar_0 8 rfl rfl)
theorem dJ11_indexOfChar_9 : decode cJ11_indexOfChar 9 = .ok (.iload_n 3, 1) := dk_29 (dk_at dksJ11_indexOfChar_0 9 rfl rfl)
theorem dJ11_indexOfChar_10 : decode cJ11_indexOfChar 10 = .ok (.invokestatic 244, 3) := dk_184 0 244 (dk_at dksJ11_indexOfChar_0 10 rfl rfl)
theorem dJ11_indexOfChar_13 : decode cJ11_indexOfChar 13 = .ok (.ireturn, 1) := dk_172 (dk_at dksJ11_indexOfChar_0 13 rfl rfl)
abbrev cJ11_checkBoundsBeginEnd : ByteArray := prog_29_method_93_code
def yJ11_checkBoundsBeginEnd : MethodName := ⟨RJ11, "checkBoundsBeginEnd", "(II[B)V"⟩
def dkwJ11_checkBoundsBeginEnd_0 : List UInt8 := [26, 27, 44, 184, 0, 48, 184, 0, 241, 177]
abbrev dktJ11_checkBoundsBeginEnd_0 : List UInt8 := dkwJ11_checkBoundsBeginEnd_0 ++ []
theorem dksJ11_checkBoundsBeginEnd_0 : cJ11_checkBoundsBeginEnd.data.toList.drop 0 = dktJ11_checkBoundsBeginEnd_0 := by decide +kernel
theorem dJ11_checkBoundsBeginEnd_0 : decode cJ11_checkBoundsBeginEnd 0 = .ok (.iload_n 0, 1) := dk_26 (dk_at dksJ11_checkBoundsBeginEnd_0 0 rfl rfl)
theorem dJ11_checkBoundsBeginEnd_1 : decode cJ11_checkBoundsBeginEnd 1 = .ok (.iload_n 1, 1) := dk_27 (dk_at dksJ11_checkBoundsBeginEnd_0 1 rfl rfl)
theorem dJ11_checkBoundsBeginEnd_2 : decode cJ11_checkBoundsBeginEnd 2 = .ok (.aload_n 2, 1) := dk_44 (dk_at dksJ11_checkBoundsBeginEnd_0 2 rfl rfl)
theorem dJ11_checkBoundsBeginEnd_3 : decode cJ11_checkBoundsBeginEnd 3 = .ok (.invokestatic 48, 3) := dk_184 0 48 (dk_at dksJ11_checkBoundsBeginEnd_0 3 rfl rfl)
theorem dJ11_checkBoundsBeginEnd_6 : decode cJ11_checkBoundsBeginEnd 6 = .ok (.invokestatic 241, 3) := dk_184 0 241 (dk_at dksJ11_checkBoundsBeginEnd_0 6 rfl rfl)
theorem dJ11_checkBoundsBeginEnd_9 : decode cJ11_checkBoundsBeginEnd 9 = .ok (.return_, 1) := dk_177 (dk_at dksJ11_checkBoundsBeginEnd_0 9 rfl rfl)
abbrev cJ11_indexOfCharUnsafe : ByteArray := prog_29_method_48_code
def yJ11_indexOfCharUnsafe : MethodName := ⟨RJ11, "indexOfCharUnsafe", "([BIII)I"⟩
def dkwJ11_indexOfCharUnsafe_1 : List UInt8 := [132, 4, 1, 167, 255, 234, 2, 172]
abbrev dktJ11_indexOfCharUnsafe_1 : List UInt8 := dkwJ11_indexOfCharUnsafe_1 ++ []
def dkwJ11_indexOfCharUnsafe_0 : List UInt8 := [28, 54, 4, 21, 4, 29, 162, 0, 22, 42, 21, 4, 184, 0, 71, 27, 160, 0, 6, 21, 4, 172]
abbrev dktJ11_indexOfCharUnsafe_0 : List UInt8 := dkwJ11_indexOfCharUnsafe_0 ++ dktJ11_indexOfCharUnsafe_1
theorem dksJ11_indexOfCharUnsafe_0 : cJ11_indexOfCharUnsafe.data.toList.drop 0 = dktJ11_indexOfCharUnsafe_0 := by decide +kernel
theorem dksJ11_indexOfCharUnsafe_1 : cJ11_indexOfCharUnsafe.data.toList.drop 22 = dktJ11_indexOfCharUnsafe_1 := dk_seg dksJ11_indexOfCharUnsafe_0 22 rfl rfl
theorem dJ11_indexOfCharUnsafe_0 : decode cJ11_indexOfCharUnsafe 0 = .ok (.iload_n 2, 1) := dk_28 (dk_at dksJ11_indexOfCharUnsafe_0 0 rfl rfl)
theorem dJ11_indexOfCharUnsafe_1 : decode cJ11_indexOfCharUnsafe 1 = .ok (.istore 4, 2) := dk_54 4 (dk_at dksJ11_indexOfCharUnsafe_0 1 rfl rfl)
theorem dJ11_indexOfCharUnsafe_3 : decode cJ11_indexOfCharUnsafe 3 = .ok (.iload 4, 2) := dk_21 4 (dk_at dksJ11_indexOfCharUnsafe_0 3 rfl rfl)
theorem dJ11_indexOfCharUnsafe_5 : decode cJ11_indexOfCharUnsafe 5 = .ok (.iload_n 3, 1) := dk_29 (dk_at dksJ11_indexOfCharUnsafe_0 5 rfl rfl)
theorem dJ11_indexOfCharUnsafe_6 : decode cJ11_indexOfCharUnsafe 6 = .ok (.if_icmp .ge 22, 3) := dk_162 0 22 (dk_at dksJ11_indexOfCharUnsafe_0 6 rfl rfl)
theorem dJ11_indexOfCharUnsafe_9 : decode cJ11_indexOfCharUnsafe 9 = .ok (.aload_n 0, 1) := dk_42 (dk_at dksJ11_indexOfCharUnsafe_0 9 rfl rfl)
theorem dJ11_indexOfCharUnsafe_10 : decode cJ11_indexOfCharUnsafe 10 = .ok (.iload 4, 2) := dk_21 4 (dk_at dksJ11_indexOfCharUnsafe_0 10 rfl rfl)
theorem dJ11_indexOfCharUnsafe_12 : decode cJ11_indexOfCharUnsafe 12 = .ok (.invokestatic 71, 3) := dk_184 0 71 (dk_at dksJ11_indexOfCharUnsafe_0 12 rfl rfl)
theorem dJ11_indexOfCharUnsafe_15 : decode cJ11_indexOfCharUnsafe 15 = .ok (.iload_n 1, 1) := dk_27 (dk_at dksJ11_indexOfCharUnsafe_0 15 rfl rfl)
theorem dJ11_indexOfCharUnsafe_16 : decode cJ11_indexOfCharUnsafe 16 = .ok (.if_icmp .ne 6, 3) := dk_160 0 6 (dk_at dksJ11_indexOfCharUnsafe_0 16 rfl rfl)
theorem dJ11_indexOfCharUnsafe_19 : decode cJ11_indexOfCharUnsafe 19 = .ok (.iload 4, 2) := dk_21 4 (dk_at dksJ11_indexOfCharUnsafe_0 19 rfl rfl)
theorem dJ11_indexOfCharUnsafe_21 : decode cJ11_indexOfCharUnsafe 21 = .ok (.ireturn, 1) := dk_172 (dk_at dksJ11_indexOfCharUnsafe_0 21 rfl rfl)
theorem dJ11_indexOfCharUnsafe_22 : decode cJ11_indexOfCharUnsafe 22 = .ok (.iinc 4 1, 3) := dk_132 4 1 (dk_at dksJ11_indexOfCharUnsafe_1 0 rfl rfl)
theorem dJ11_indexOfCharUnsafe_25 : decode cJ11_indexOfCharUnsafe 25 = .ok (.goto (-22), 3) := dk_167 255 234 (dk_at dksJ11_indexOfCharUnsafe_1 3 rfl rfl)
theorem dJ11_indexOfCharUnsafe_28 : decode cJ11_indexOfCharUnsafe 28 = .ok (.iconst (-1), 1) := dk_2 (dk_at dksJ11_indexOfCharUnsafe_1 6 rfl rfl)
theorem dJ11_indexOfCharUnsafe_29 : decode cJ11_indexOfCharUnsafe 29 = .ok (.ireturn, 1) := dk_172 (dk_at dksJ11_indexOfCharUnsafe_1 7 rfl rfl)
abbrev cJ11_indexOfSupplementary : ByteArray := prog_29_method_49_code
def yJ11_indexOfSupplementary : MethodName := ⟨RJ11, "indexOfSupplementary", "([BIII)I"⟩
def dkwJ11_indexOfSupplementary_3 : List UInt8 := [167, 255, 218, 2, 172]
abbrev dktJ11_indexOfSupplementary_3 : List UInt8 := dkwJ11_indexOfSupplementary_3 ++ []
def dkwJ11_indexOfSupplementary_2 : List UInt8 := [160, 0, 19, 42, 21, 6, 4, 96, 184, 0, 71, 21, 5, 160, 0, 6, 21, 6, 172, 132, 6, 1]
abbrev dktJ11_indexOfSupplementary_2 : List UInt8 := dkwJ11_indexOfSupplementary_2 ++ dktJ11_indexOfSupplementary_3
def dkwJ11_indexOfSupplementary_1 : List UInt8 := [184, 0, 96, 28, 54, 6, 21, 6, 29, 4, 100, 162, 0, 36, 42, 21, 6, 184, 0, 71, 21, 4]
abbrev dktJ11_indexOfSupplementary_1 : List UInt8 := dkwJ11_indexOfSupplementary_1 ++ dktJ11_indexOfSupplementary_2
def dkwJ11_indexOfSupplementary_0 : List UInt8 := [27, 184, 0, 164, 153, 0, 65, 27, 184, 0, 157, 54, 4, 27, 184, 0, 161, 54, 5, 28, 29, 42]
abbrev dktJ11_indexOfSupplementary_0 : List UInt8 := dkwJ11_indexOfSupplementary_0 ++ dktJ11_indexOfSupplementary_1
theorem dksJ11_indexOfSupplementary_0 : cJ11_indexOfSupplementary.data.toList.drop 0 = dktJ11_indexOfSupplementary_0 := by decide +kernel
theorem dksJ11_indexOfSupplementary_1 : cJ11_indexOfSupplementary.data.toList.drop 22 = dktJ11_indexOfSupplementary_1 := dk_seg dksJ11_indexOfSupplementary_0 22 rfl rfl
theorem dksJ11_indexOfSupplementary_2 : cJ11_indexOfSupplementary.data.toList.drop 44 = dktJ11_indexOfSupplementary_2 := dk_seg dksJ11_indexOfSupplementary_1 22 rfl rfl
theorem dksJ11_indexOfSupplementary_3 : cJ11_indexOfSupplementary.data.toList.drop 66 = dktJ11_indexOfSupplementary_3 := dk_seg dksJ11_indexOfSupplementary_2 22 rfl rfl
theorem dJ11_indexOfSupplementary_0 : decode cJ11_indexOfSupplementary 0 = .ok (.iload_n 1, 1) := dk_27 (dk_at dksJ11_indexOfSupplementary_0 0 rfl rfl)
theorem dJ11_indexOfSupplementary_1 : decode cJ11_indexOfSupplementary 1 = .ok (.invokestatic 164, 3) := dk_184 0 164 (dk_at dksJ11_indexOfSupplementary_0 1 rfl rfl)
theorem dJ11_indexOfSupplementary_4 : decode cJ11_indexOfSupplementary 4 = .ok (.ifCond .eq 65, 3) := dk_153 0 65 (dk_at dksJ11_indexOfSupplementary_0 4 rfl rfl)
theorem dJ11_indexOfSupplementary_7 : decode cJ11_indexOfSupplementary 7 = .ok (.iload_n 1, 1) := dk_27 (dk_at dksJ11_indexOfSupplementary_0 7 rfl rfl)
theorem dJ11_indexOfSupplementary_8 : decode cJ11_indexOfSupplementary 8 = .ok (.invokestatic 157, 3) := dk_184 0 157 (dk_at dksJ11_indexOfSupplementary_0 8 rfl rfl)
theorem dJ11_indexOfSupplementary_11 : decode cJ11_indexOfSupplementary 11 = .ok (.istore 4, 2) := dk_54 4 (dk_at dksJ11_indexOfSupplementary_0 11 rfl rfl)
theorem dJ11_indexOfSupplementary_13 : decode cJ11_indexOfSupplementary 13 = .ok (.iload_n 1, 1) := dk_27 (dk_at dksJ11_indexOfSupplementary_0 13 rfl rfl)
theorem dJ11_indexOfSupplementary_14 : decode cJ11_indexOfSupplementary 14 = .ok (.invokestatic 161, 3) := dk_184 0 161 (dk_at dksJ11_indexOfSupplementary_0 14 rfl rfl)
theorem dJ11_indexOfSupplementary_17 : decode cJ11_indexOfSupplementary 17 = .ok (.istore 5, 2) := dk_54 5 (dk_at dksJ11_indexOfSupplementary_0 17 rfl rfl)
theorem dJ11_indexOfSupplementary_19 : decode cJ11_indexOfSupplementary 19 = .ok (.iload_n 2, 1) := dk_28 (dk_at dksJ11_indexOfSupplementary_0 19 rfl rfl)
theorem dJ11_indexOfSupplementary_20 : decode cJ11_indexOfSupplementary 20 = .ok (.iload_n 3, 1) := dk_29 (dk_at dksJ11_indexOfSupplementary_0 20 rfl rfl)
theorem dJ11_indexOfSupplementary_21 : decode cJ11_indexOfSupplementary 21 = .ok (.aload_n 0, 1) := dk_42 (dk_at dksJ11_indexOfSupplementary_0 21 rfl rfl)
theorem dJ11_indexOfSupplementary_22 : decode cJ11_indexOfSupplementary 22 = .ok (.invokestatic 96, 3) := dk_184 0 96 (dk_at dksJ11_indexOfSupplementary_1 0 rfl rfl)
theorem dJ11_indexOfSupplementary_25 : decode cJ11_indexOfSupplementary 25 = .ok (.iload_n 2, 1) := dk_28 (dk_at dksJ11_indexOfSupplementary_1 3 rfl rfl)
theorem dJ11_indexOfSupplementary_26 : decode cJ11_indexOfSupplementary 26 = .ok (.istore 6, 2) := dk_54 6 (dk_at dksJ11_indexOfSupplementary_1 4 rfl rfl)
theorem dJ11_indexOfSupplementary_28 : decode cJ11_indexOfSupplementary 28 = .ok (.iload 6, 2) := dk_21 6 (dk_at dksJ11_indexOfSupplementary_1 6 rfl rfl)
theorem dJ11_indexOfSupplementary_30 : decode cJ11_indexOfSupplementary 30 = .ok (.iload_n 3, 1) := dk_29 (dk_at dksJ11_indexOfSupplementary_1 8 rfl rfl)
theorem dJ11_indexOfSupplementary_31 : decode cJ11_indexOfSupplementary 31 = .ok (.iconst 1, 1) := dk_4 (dk_at dksJ11_indexOfSupplementary_1 9 rfl rfl)
theorem dJ11_indexOfSupplementary_32 : decode cJ11_indexOfSupplementary 32 = .ok (.isub, 1) := dk_100 (dk_at dksJ11_indexOfSupplementary_1 10 rfl rfl)
theorem dJ11_indexOfSupplementary_33 : decode cJ11_indexOfSupplementary 33 = .ok (.if_icmp .ge 36, 3) := dk_162 0 36 (dk_at dksJ11_indexOfSupplementary_1 11 rfl rfl)
theorem dJ11_indexOfSupplementary_36 : decode cJ11_indexOfSupplementary 36 = .ok (.aload_n 0, 1) := dk_42 (dk_at dksJ11_indexOfSupplementary_1 14 rfl rfl)
theorem dJ11_indexOfSupplementary_37 : decode cJ11_indexOfSupplementary 37 = .ok (.iload 6, 2) := dk_21 6 (dk_at dksJ11_indexOfSupplementary_1 15 rfl rfl)
theorem dJ11_indexOfSupplementary_39 : decode cJ11_indexOfSupplementary 39 = .ok (.invokestatic 71, 3) := dk_184 0 71 (dk_at dksJ11_indexOfSupplementary_1 17 rfl rfl)
theorem dJ11_indexOfSupplementary_42 : decode cJ11_indexOfSupplementary 42 = .ok (.iload 4, 2) := dk_21 4 (dk_at dksJ11_indexOfSupplementary_1 20 rfl rfl)
theorem dJ11_indexOfSupplementary_44 : decode cJ11_indexOfSupplementary 44 = .ok (.if_icmp .ne 19, 3) := dk_160 0 19 (dk_at dksJ11_indexOfSupplementary_2 0 rfl rfl)
theorem dJ11_indexOfSupplementary_47 : decode cJ11_indexOfSupplementary 47 = .ok (.aload_n 0, 1) := dk_42 (dk_at dksJ11_indexOfSupplementary_2 3 rfl rfl)
theorem dJ11_indexOfSupplementary_48 : decode cJ11_indexOfSupplementary 48 = .ok (.iload 6, 2) := dk_21 6 (dk_at dksJ11_indexOfSupplementary_2 4 rfl rfl)
theorem dJ11_indexOfSupplementary_50 : decode cJ11_indexOfSupplementary 50 = .ok (.iconst 1, 1) := dk_4 (dk_at dksJ11_indexOfSupplementary_2 6 rfl rfl)
theorem dJ11_indexOfSupplementary_51 : decode cJ11_indexOfSupplementary 51 = .ok (.iadd, 1) := dk_96 (dk_at dksJ11_indexOfSupplementary_2 7 rfl rfl)
theorem dJ11_indexOfSupplementary_52 : decode cJ11_indexOfSupplementary 52 = .ok (.invokestatic 71, 3) := dk_184 0 71 (dk_at dksJ11_indexOfSupplementary_2 8 rfl rfl)
theorem dJ11_indexOfSupplementary_55 : decode cJ11_indexOfSupplementary 55 = .ok (.iload 5, 2) := dk_21 5 (dk_at dksJ11_indexOfSupplementary_2 11 rfl rfl)
theorem dJ11_indexOfSupplementary_57 : decode cJ11_indexOfSupplementary 57 = .ok (.if_icmp .ne 6, 3) := dk_160 0 6 (dk_at dksJ11_indexOfSupplementary_2 13 rfl rfl)
theorem dJ11_indexOfSupplementary_60 : decode cJ11_indexOfSupplementary 60 = .ok (.iload 6, 2) := dk_21 6 (dk_at dksJ11_indexOfSupplementary_2 16 rfl rfl)
theorem dJ11_indexOfSupplementary_62 : decode cJ11_indexOfSupplementary 62 = .ok (.ireturn, 1) := dk_172 (dk_at dksJ11_indexOfSupplementary_2 18 rfl rfl)
theorem dJ11_indexOfSupplementary_63 : decode cJ11_indexOfSupplementary 63 = .ok (.iinc 6 1, 3) := dk_132 6 1 (dk_at dksJ11_indexOfSupplementary_2 19 rfl rfl)
theorem dJ11_indexOfSupplementary_66 : decode cJ11_indexOfSupplementary 66 = .ok (.goto (-38), 3) := dk_167 255 218 (dk_at dksJ11_indexOfSupplementary_3 0 rfl rfl)
theorem dJ11_indexOfSupplementary_69 : decode cJ11_indexOfSupplementary 69 = .ok (.iconst (-1), 1) := dk_2 (dk_at dksJ11_indexOfSupplementary_3 3 rfl rfl)
theorem dJ11_indexOfSupplementary_70 : decode cJ11_indexOfSupplementary 70 = .ok (.ireturn, 1) := dk_172 (dk_at dksJ11_indexOfSupplementary_3 4 rfl rfl)
abbrev cJ11_newBytesFor : ByteArray := prog_29_method_2_code
def yJ11_newBytesFor : MethodName := ⟨RJ11, "newBytesFor", "(I)[B"⟩
def dkwJ11_newBytesFor_0 : List UInt8 := [26, 184, 0, 11, 188, 8, 176]
abbrev dktJ11_newBytesFor_0 : List UInt8 := dkwJ11_newBytesFor_0 ++ []
theorem dksJ11_newBytesFor_0 : cJ11_newBytesFor.data.toList.drop 0 = dktJ11_newBytesFor_0 := by decide +kernel
theorem dJ11_newBytesFor_0 : decode cJ11_newBytesFor 0 = .ok (.iload_n 0, 1) := dk_26 (dk_at dksJ11_newBytesFor_0 0 rfl rfl)
theorem dJ11_newBytesFor_1 : decode cJ11_newBytesFor 1 = .ok (.invokestatic 11, 3) := dk_184 0 11 (dk_at dksJ11_newBytesFor_0 1 rfl rfl)
theorem dJ11_newBytesFor_4 : decode cJ11_newBytesFor 4 = .ok (.newarray .byte, 2) := dk_188_8 (dk_at dksJ11_newBytesFor_0 4 rfl rfl)
theorem dJ11_newBytesFor_6 : decode cJ11_newBytesFor 6 = .ok (.areturn, 1) := dk_176 (dk_at dksJ11_newBytesFor_0 6 rfl rfl)
abbrev cJ11_newBytesLength : ByteArray := prog_29_method_3_code
def yJ11_newBytesLength : MethodName := ⟨RJ11, "newBytesLength", "(I)I"⟩
def dkwJ11_newBytesLength_2 : List UInt8 := [182, 0, 32, 182, 0, 37, 183, 0, 41, 191, 26, 4, 120, 172]
abbrev dktJ11_newBytesLength_2 : List UInt8 := dkwJ11_newBytesLength_2 ++ []
def dkwJ11_newBytesLength_1 : List UInt8 := [187, 0, 23, 89, 183, 0, 25, 18, 26, 182, 0, 28, 26, 182, 0, 32, 18, 35, 182, 0, 28, 18, 20]
abbrev dktJ11_newBytesLength_1 : List UInt8 := dkwJ11_newBytesLength_1 ++ dktJ11_newBytesLength_2
def dkwJ11_newBytesLength_0 : List UInt8 := [26, 156, 0, 11, 187, 0, 17, 89, 183, 0, 19, 191, 26, 18, 20, 161, 0, 40, 187, 0, 21, 89]
abbrev dktJ11_newBytesLength_0 : List UInt8 := dkwJ11_newBytesLength_0 ++ dktJ11_newBytesLength_1
theorem dksJ11_newBytesLength_0 : cJ11_newBytesLength.data.toList.drop 0 = dktJ11_newBytesLength_0 := by decide +kernel
theorem dksJ11_newBytesLength_1 : cJ11_newBytesLength.data.toList.drop 22 = dktJ11_newBytesLength_1 := dk_seg dksJ11_newBytesLength_0 22 rfl rfl
theorem dksJ11_newBytesLength_2 : cJ11_newBytesLength.data.toList.drop 45 = dktJ11_newBytesLength_2 := dk_seg dksJ11_newBytesLength_1 23 rfl rfl
theorem dJ11_newBytesLength_0 : decode cJ11_newBytesLength 0 = .ok (.iload_n 0, 1) := dk_26 (dk_at dksJ11_newBytesLength_0 0 rfl rfl)
theorem dJ11_newBytesLength_1 : decode cJ11_newBytesLength 1 = .ok (.ifCond .ge 11, 3) := dk_156 0 11 (dk_at dksJ11_newBytesLength_0 1 rfl rfl)
theorem dJ11_newBytesLength_4 : decode cJ11_newBytesLength 4 = .ok (.new 17, 3) := dk_187 0 17 (dk_at dksJ11_newBytesLength_0 4 rfl rfl)
theorem dJ11_newBytesLength_7 : decode cJ11_newBytesLength 7 = .ok (.dup, 1) := dk_89 (dk_at dksJ11_newBytesLength_0 7 rfl rfl)
theorem dJ11_newBytesLength_8 : decode cJ11_newBytesLength 8 = .ok (.invokespecial 19, 3) := dk_183 0 19 (dk_at dksJ11_newBytesLength_0 8 rfl rfl)
theorem dJ11_newBytesLength_11 : decode cJ11_newBytesLength 11 = .ok (.athrow, 1) := dk_191 (dk_at dksJ11_newBytesLength_0 11 rfl rfl)
theorem dJ11_newBytesLength_12 : decode cJ11_newBytesLength 12 = .ok (.iload_n 0, 1) := dk_26 (dk_at dksJ11_newBytesLength_0 12 rfl rfl)
theorem dJ11_newBytesLength_13 : decode cJ11_newBytesLength 13 = .ok (.ldc 20, 2) := dk_18 20 (dk_at dksJ11_newBytesLength_0 13 rfl rfl)
theorem dJ11_newBytesLength_15 : decode cJ11_newBytesLength 15 = .ok (.if_icmp .lt 40, 3) := dk_161 0 40 (dk_at dksJ11_newBytesLength_0 15 rfl rfl)
theorem dJ11_newBytesLength_18 : decode cJ11_newBytesLength 18 = .ok (.new 21, 3) := dk_187 0 21 (dk_at dksJ11_newBytesLength_0 18 rfl rfl)
theorem dJ11_newBytesLength_21 : decode cJ11_newBytesLength 21 = .ok (.dup, 1) := dk_89 (dk_at dksJ11_newBytesLength_0 21 rfl rfl)
theorem dJ11_newBytesLength_22 : decode cJ11_newBytesLength 22 = .ok (.new 23, 3) := dk_187 0 23 (dk_at dksJ11_newBytesLength_1 0 rfl rfl)
theorem dJ11_newBytesLength_25 : decode cJ11_newBytesLength 25 = .ok (.dup, 1) := dk_89 (dk_at dksJ11_newBytesLength_1 3 rfl rfl)
theorem dJ11_newBytesLength_26 : decode cJ11_newBytesLength 26 = .ok (.invokespecial 25, 3) := dk_183 0 25 (dk_at dksJ11_newBytesLength_1 4 rfl rfl)
theorem dJ11_newBytesLength_29 : decode cJ11_newBytesLength 29 = .ok (.ldc 26, 2) := dk_18 26 (dk_at dksJ11_newBytesLength_1 7 rfl rfl)
theorem dJ11_newBytesLength_31 : decode cJ11_newBytesLength 31 = .ok (.invokevirtual 28, 3) := dk_182 0 28 (dk_at dksJ11_newBytesLength_1 9 rfl rfl)
theorem dJ11_newBytesLength_34 : decode cJ11_newBytesLength 34 = .ok (.iload_n 0, 1) := dk_26 (dk_at dksJ11_newBytesLength_1 12 rfl rfl)
theorem dJ11_newBytesLength_35 : decode cJ11_newBytesLength 35 = .ok (.invokevirtual 32, 3) := dk_182 0 32 (dk_at dksJ11_newBytesLength_1 13 rfl rfl)
theorem dJ11_newBytesLength_38 : decode cJ11_newBytesLength 38 = .ok (.ldc 35, 2) := dk_18 35 (dk_at dksJ11_newBytesLength_1 16 rfl rfl)
theorem dJ11_newBytesLength_40 : decode cJ11_newBytesLength 40 = .ok (.invokevirtual 28, 3) := dk_182 0 28 (dk_at dksJ11_newBytesLength_1 18 rfl rfl)
theorem dJ11_newBytesLength_43 : decode cJ11_newBytesLength 43 = .ok (.ldc 20, 2) := dk_18 20 (dk_at dksJ11_newBytesLength_1 21 rfl rfl)
theorem dJ11_newBytesLength_45 : decode cJ11_newBytesLength 45 = .ok (.invokevirtual 32, 3) := dk_182 0 32 (dk_at dksJ11_newBytesLength_2 0 rfl rfl)
theorem dJ11_newBytesLength_48 : decode cJ11_newBytesLength 48 = .ok (.invokevirtual 37, 3) := dk_182 0 37 (dk_at dksJ11_newBytesLength_2 3 rfl rfl)
theorem dJ11_newBytesLength_51 : decode cJ11_newBytesLength 51 = .ok (.invokespecial 41, 3) := dk_183 0 41 (dk_at dksJ11_newBytesLength_2 6 rfl rfl)
theorem dJ11_newBytesLength_54 : decode cJ11_newBytesLength 54 = .ok (.athrow, 1) := dk_191 (dk_at dksJ11_newBytesLength_2 9 rfl rfl)
theorem dJ11_newBytesLength_55 : decode cJ11_newBytesLength 55 = .ok (.iload_n 0, 1) := dk_26 (dk_at dksJ11_newBytesLength_2 10 rfl rfl)
theorem dJ11_newBytesLength_56 : decode cJ11_newBytesLength 56 = .ok (.iconst 1, 1) := dk_4 (dk_at dksJ11_newBytesLength_2 11 rfl rfl)
theorem dJ11_newBytesLength_57 : decode cJ11_newBytesLength 57 = .ok (.ishl, 1) := dk_120 (dk_at dksJ11_newBytesLength_2 12 rfl rfl)
theorem dJ11_newBytesLength_58 : decode cJ11_newBytesLength 58 = .ok (.ireturn, 1) := dk_172 (dk_at dksJ11_newBytesLength_2 13 rfl rfl)
abbrev cJ11_putCharsAt : ByteArray := prog_29_method_81_code
def yJ11_putCharsAt : MethodName := ⟨RJ11, "putCharsAt", "([BICCCC)I"⟩
def dkwJ11_putCharsAt_3 : List UInt8 := [21, 6, 172]
abbrev dktJ11_putCharsAt_3 : List UInt8 := dkwJ11_putCharsAt_3 ++ []
def dkwJ11_putCharsAt_2 : List UInt8 := [184, 0, 111, 178, 0, 44, 154, 0, 17, 27, 21, 6, 159, 0, 11, 187, 0, 52, 89, 183, 0, 66, 191]
abbrev dktJ11_putCharsAt_2 : List UInt8 := dkwJ11_putCharsAt_2 ++ dktJ11_putCharsAt_3
def dkwJ11_putCharsAt_1 : List UInt8 := [132, 1, 1, 29, 184, 0, 111, 42, 27, 132, 1, 1, 21, 4, 184, 0, 111, 42, 27, 132, 1, 1, 21, 5]
abbrev dktJ11_putCharsAt_1 : List UInt8 := dkwJ11_putCharsAt_1 ++ dktJ11_putCharsAt_2
def dkwJ11_putCharsAt_0 : List UInt8 := [27, 7, 96, 54, 6, 27, 21, 6, 42, 184, 0, 96, 42, 27, 132, 1, 1, 28, 184, 0, 111, 42, 27]
abbrev dktJ11_putCharsAt_0 : List UInt8 := dkwJ11_putCharsAt_0 ++ dktJ11_putCharsAt_1
theorem dksJ11_putCharsAt_0 : cJ11_putCharsAt.data.toList.drop 0 = dktJ11_putCharsAt_0 := by decide +kernel
theorem dksJ11_putCharsAt_1 : cJ11_putCharsAt.data.toList.drop 23 = dktJ11_putCharsAt_1 := dk_seg dksJ11_putCharsAt_0 23 rfl rfl
theorem dksJ11_putCharsAt_2 : cJ11_putCharsAt.data.toList.drop 47 = dktJ11_putCharsAt_2 := dk_seg dksJ11_putCharsAt_1 24 rfl rfl
theorem dksJ11_putCharsAt_3 : cJ11_putCharsAt.data.toList.drop 70 = dktJ11_putCharsAt_3 := dk_seg dksJ11_putCharsAt_2 23 rfl rfl
theorem dJ11_putCharsAt_0 : decode cJ11_putCharsAt 0 = .ok (.iload_n 1, 1) := dk_27 (dk_at dksJ11_putCharsAt_0 0 rfl rfl)
theorem dJ11_putCharsAt_1 : decode cJ11_putCharsAt 1 = .ok (.iconst 4, 1) := dk_7 (dk_at dksJ11_putCharsAt_0 1 rfl rfl)
theorem dJ11_putCharsAt_2 : decode cJ11_putCharsAt 2 = .ok (.iadd, 1) := dk_96 (dk_at dksJ11_putCharsAt_0 2 rfl rfl)
theorem dJ11_putCharsAt_3 : decode cJ11_putCharsAt 3 = .ok (.istore 6, 2) := dk_54 6 (dk_at dksJ11_putCharsAt_0 3 rfl rfl)
theorem dJ11_putCharsAt_5 : decode cJ11_putCharsAt 5 = .ok (.iload_n 1, 1) := dk_27 (dk_at dksJ11_putCharsAt_0 5 rfl rfl)
theorem dJ11_putCharsAt_6 : decode cJ11_putCharsAt 6 = .ok (.iload 6, 2) := dk_21 6 (dk_at dksJ11_putCharsAt_0 6 rfl rfl)
theorem dJ11_putCharsAt_8 : decode cJ11_putCharsAt 8 = .ok (.aload_n 0, 1) := dk_42 (dk_at dksJ11_putCharsAt_0 8 rfl rfl)
theorem dJ11_putCharsAt_9 : decode cJ11_putCharsAt 9 = .ok (.invokestatic 96, 3) := dk_184 0 96 (dk_at dksJ11_putCharsAt_0 9 rfl rfl)
theorem dJ11_putCharsAt_12 : decode cJ11_putCharsAt 12 = .ok (.aload_n 0, 1) := dk_42 (dk_at dksJ11_putCharsAt_0 12 rfl rfl)
theorem dJ11_putCharsAt_13 : decode cJ11_putCharsAt 13 = .ok (.iload_n 1, 1) := dk_27 (dk_at dksJ11_putCharsAt_0 13 rfl rfl)
theorem dJ11_putCharsAt_14 : decode cJ11_putCharsAt 14 = .ok (.iinc 1 1, 3) := dk_132 1 1 (dk_at dksJ11_putCharsAt_0 14 rfl rfl)
theorem dJ11_putCharsAt_17 : decode cJ11_putCharsAt 17 = .ok (.iload_n 2, 1) := dk_28 (dk_at dksJ11_putCharsAt_0 17 rfl rfl)
theorem dJ11_putCharsAt_18 : decode cJ11_putCharsAt 18 = .ok (.invokestatic 111, 3) := dk_184 0 111 (dk_at dksJ11_putCharsAt_0 18 rfl rfl)
theorem dJ11_putCharsAt_21 : decode cJ11_putCharsAt 21 = .ok (.aload_n 0, 1) := dk_42 (dk_at dksJ11_putCharsAt_0 21 rfl rfl)
theorem dJ11_putCharsAt_22 : decode cJ11_putCharsAt 22 = .ok (.iload_n 1, 1) := dk_27 (dk_at dksJ11_putCharsAt_0 22 rfl rfl)
theorem dJ11_putCharsAt_23 : decode cJ11_putCharsAt 23 = .ok (.iinc 1 1, 3) := dk_132 1 1 (dk_at dksJ11_putCharsAt_1 0 rfl rfl)
theorem dJ11_putCharsAt_26 : decode cJ11_putCharsAt 26 = .ok (.iload_n 3, 1) := dk_29 (dk_at dksJ11_putCharsAt_1 3 rfl rfl)
theorem dJ11_putCharsAt_27 : decode cJ11_putCharsAt 27 = .ok (.invokestatic 111, 3) := dk_184 0 111 (dk_at dksJ11_putCharsAt_1 4 rfl rfl)
theorem dJ11_putCharsAt_30 : decode cJ11_putCharsAt 30 = .ok (.aload_n 0, 1) := dk_42 (dk_at dksJ11_putCharsAt_1 7 rfl rfl)
theorem dJ11_putCharsAt_31 : decode cJ11_putCharsAt 31 = .ok (.iload_n 1, 1) := dk_27 (dk_at dksJ11_putCharsAt_1 8 rfl rfl)
theorem dJ11_putCharsAt_32 : decode cJ11_putCharsAt 32 = .ok (.iinc 1 1, 3) := dk_132 1 1 (dk_at dksJ11_putCharsAt_1 9 rfl rfl)
theorem dJ11_putCharsAt_35 : decode cJ11_putCharsAt 35 = .ok (.iload 4, 2) := dk_21 4 (dk_at dksJ11_putCharsAt_1 12 rfl rfl)
theorem dJ11_putCharsAt_37 : decode cJ11_putCharsAt 37 = .ok (.invokestatic 111, 3) := dk_184 0 111 (dk_at dksJ11_putCharsAt_1 14 rfl rfl)
theorem dJ11_putCharsAt_40 : decode cJ11_putCharsAt 40 = .ok (.aload_n 0, 1) := dk_42 (dk_at dksJ11_putCharsAt_1 17 rfl rfl)
theorem dJ11_putCharsAt_41 : decode cJ11_putCharsAt 41 = .ok (.iload_n 1, 1) := dk_27 (dk_at dksJ11_putCharsAt_1 18 rfl rfl)
theorem dJ11_putCharsAt_42 : decode cJ11_putCharsAt 42 = .ok (.iinc 1 1, 3) := dk_132 1 1 (dk_at dksJ11_putCharsAt_1 19 rfl rfl)
theorem dJ11_putCharsAt_45 : decode cJ11_putCharsAt 45 = .ok (.iload 5, 2) := dk_21 5 (dk_at dksJ11_putCharsAt_1 22 rfl rfl)
theorem dJ11_putCharsAt_47 : decode cJ11_putCharsAt 47 = .ok (.invokestatic 111, 3) := dk_184 0 111 (dk_at dksJ11_putCharsAt_2 0 rfl rfl)
theorem dJ11_putCharsAt_50 : decode cJ11_putCharsAt 50 = .ok (.getstatic 44, 3) := dk_178 0 44 (dk_at dksJ11_putCharsAt_2 3 rfl rfl)
theorem dJ11_putCharsAt_53 : decode cJ11_putCharsAt 53 = .ok (.ifCond .ne 17, 3) := dk_154 0 17 (dk_at dksJ11_putCharsAt_2 6 rfl rfl)
theorem dJ11_putCharsAt_56 : decode cJ11_putCharsAt 56 = .ok (.iload_n 1, 1) := dk_27 (dk_at dksJ11_putCharsAt_2 9 rfl rfl)
theorem dJ11_putCharsAt_57 : decode cJ11_putCharsAt 57 = .ok (.iload 6, 2) := dk_21 6 (dk_at dksJ11_putCharsAt_2 10 rfl rfl)
theorem dJ11_putCharsAt_59 : decode cJ11_putCharsAt 59 = .ok (.if_icmp .eq 11, 3) := dk_159 0 11 (dk_at dksJ11_putCharsAt_2 12 rfl rfl)
theorem dJ11_putCharsAt_62 : decode cJ11_putCharsAt 62 = .ok (.new 52, 3) := dk_187 0 52 (dk_at dksJ11_putCharsAt_2 15 rfl rfl)
theorem dJ11_putCharsAt_65 : decode cJ11_putCharsAt 65 = .ok (.dup, 1) := dk_89 (dk_at dksJ11_putCharsAt_2 18 rfl rfl)
theorem dJ11_putCharsAt_66 : decode cJ11_putCharsAt 66 = .ok (.invokespecial 66, 3) := dk_183 0 66 (dk_at dksJ11_putCharsAt_2 19 rfl rfl)
theorem dJ11_putCharsAt_69 : decode cJ11_putCharsAt 69 = .ok (.athrow, 1) := dk_191 (dk_at dksJ11_putCharsAt_2 22 rfl rfl)
theorem dJ11_putCharsAt_70 : decode cJ11_putCharsAt 70 = .ok (.iload 6, 2) := dk_21 6 (dk_at dksJ11_putCharsAt_3 0 rfl rfl)
theorem dJ11_putCharsAt_72 : decode cJ11_putCharsAt 72 = .ok (.ireturn, 1) := dk_172 (dk_at dksJ11_putCharsAt_3 2 rfl rfl)
abbrev cJ11_putChar : ByteArray := prog_29_method_4_code
def yJ11_putChar : MethodName := ⟨RJ11, "putChar", "([BII)V"⟩
def dkwJ11_putChar_2 : List UInt8 := [178, 0, 63, 122, 145, 84, 177]
abbrev dktJ11_putChar_2 : List UInt8 := dkwJ11_putChar_2 ++ []
def dkwJ11_putChar_1 : List UInt8 := [183, 0, 56, 191, 27, 4, 120, 60, 42, 27, 132, 1, 1, 28, 178, 0, 59, 122, 145, 84, 42, 27, 28]
abbrev dktJ11_putChar_1 : List UInt8 := dkwJ11_putChar_1 ++ dktJ11_putChar_2
def dkwJ11_putChar_0 : List UInt8 := [178, 0, 44, 154, 0, 25, 27, 155, 0, 11, 27, 42, 184, 0, 48, 161, 0, 13, 187, 0, 52, 89, 18, 54]
abbrev dktJ11_putChar_0 : List UInt8 := dkwJ11_putChar_0 ++ dktJ11_putChar_1
theorem dksJ11_putChar_0 : cJ11_putChar.data.toList.drop 0 = dktJ11_putChar_0 := by decide +kernel
theorem dksJ11_putChar_1 : cJ11_putChar.data.toList.drop 24 = dktJ11_putChar_1 := dk_seg dksJ11_putChar_0 24 rfl rfl
theorem dksJ11_putChar_2 : cJ11_putChar.data.toList.drop 47 = dktJ11_putChar_2 := dk_seg dksJ11_putChar_1 23 rfl rfl
theorem dJ11_putChar_0 : decode cJ11_putChar 0 = .ok (.getstatic 44, 3) := dk_178 0 44 (dk_at dksJ11_putChar_0 0 rfl rfl)
theorem dJ11_putChar_3 : decode cJ11_putChar 3 = .ok (.ifCond .ne 25, 3) := dk_154 0 25 (dk_at dksJ11_putChar_0 3 rfl rfl)
theorem dJ11_putChar_6 : decode cJ11_putChar 6 = .ok (.iload_n 1, 1) := dk_27 (dk_at dksJ11_putChar_0 6 rfl rfl)
theorem dJ11_putChar_7 : decode cJ11_putChar 7 = .ok (.ifCond .lt 11, 3) := dk_155 0 11 (dk_at dksJ11_putChar_0 7 rfl rfl)
theorem dJ11_putChar_10 : decode cJ11_putChar 10 = .ok (.iload_n 1, 1) := dk_27 (dk_at dksJ11_putChar_0 10 rfl rfl)
theorem dJ11_putChar_11 : decode cJ11_putChar 11 = .ok (.aload_n 0, 1) := dk_42 (dk_at dksJ11_putChar_0 11 rfl rfl)
theorem dJ11_putChar_12 : decode cJ11_putChar 12 = .ok (.invokestatic 48, 3) := dk_184 0 48 (dk_at dksJ11_putChar_0 12 rfl rfl)
theorem dJ11_putChar_15 : decode cJ11_putChar 15 = .ok (.if_icmp .lt 13, 3) := dk_161 0 13 (dk_at dksJ11_putChar_0 15 rfl rfl)
theorem dJ11_putChar_18 : decode cJ11_putChar 18 = .ok (.new 52, 3) := dk_187 0 52 (dk_at dksJ11_putChar_0 18 rfl rfl)
theorem dJ11_putChar_21 : decode cJ11_putChar 21 = .ok (.dup, 1) := dk_89 (dk_at dksJ11_putChar_0 21 rfl rfl)
theorem dJ11_putChar_22 : decode cJ11_putChar 22 = .ok (.ldc 54, 2) := dk_18 54 (dk_at dksJ11_putChar_0 22 rfl rfl)
theorem dJ11_putChar_24 : decode cJ11_putChar 24 = .ok (.invokespecial 56, 3) := dk_183 0 56 (dk_at dksJ11_putChar_1 0 rfl rfl)
theorem dJ11_putChar_27 : decode cJ11_putChar 27 = .ok (.athrow, 1) := dk_191 (dk_at dksJ11_putChar_1 3 rfl rfl)
theorem dJ11_putChar_28 : decode cJ11_putChar 28 = .ok (.iload_n 1, 1) := dk_27 (dk_at dksJ11_putChar_1 4 rfl rfl)
theorem dJ11_putChar_29 : decode cJ11_putChar 29 = .ok (.iconst 1, 1) := dk_4 (dk_at dksJ11_putChar_1 5 rfl rfl)
theorem dJ11_putChar_30 : decode cJ11_putChar 30 = .ok (.ishl, 1) := dk_120 (dk_at dksJ11_putChar_1 6 rfl rfl)
theorem dJ11_putChar_31 : decode cJ11_putChar 31 = .ok (.istore_n 1, 1) := dk_60 (dk_at dksJ11_putChar_1 7 rfl rfl)
theorem dJ11_putChar_32 : decode cJ11_putChar 32 = .ok (.aload_n 0, 1) := dk_42 (dk_at dksJ11_putChar_1 8 rfl rfl)
theorem dJ11_putChar_33 : decode cJ11_putChar 33 = .ok (.iload_n 1, 1) := dk_27 (dk_at dksJ11_putChar_1 9 rfl rfl)
theorem dJ11_putChar_34 : decode cJ11_putChar 34 = .ok (.iinc 1 1, 3) := dk_132 1 1 (dk_at dksJ11_putChar_1 10 rfl rfl)
theorem dJ11_putChar_37 : decode cJ11_putChar 37 = .ok (.iload_n 2, 1) := dk_28 (dk_at dksJ11_putChar_1 13 rfl rfl)
theorem dJ11_putChar_38 : decode cJ11_putChar 38 = .ok (.getstatic 59, 3) := dk_178 0 59 (dk_at dksJ11_putChar_1 14 rfl rfl)
theorem dJ11_putChar_41 : decode cJ11_putChar 41 = .ok (.ishr, 1) := dk_122 (dk_at dksJ11_putChar_1 17 rfl rfl)
theorem dJ11_putChar_42 : decode cJ11_putChar 42 = .ok (.i2b, 1) := dk_145 (dk_at dksJ11_putChar_1 18 rfl rfl)
theorem dJ11_putChar_43 : decode cJ11_putChar 43 = .ok (.bastore, 1) := dk_84 (dk_at dksJ11_putChar_1 19 rfl rfl)
theorem dJ11_putChar_44 : decode cJ11_putChar 44 = .ok (.aload_n 0, 1) := dk_42 (dk_at dksJ11_putChar_1 20 rfl rfl)
theorem dJ11_putChar_45 : decode cJ11_putChar 45 = .ok (.iload_n 1, 1) := dk_27 (dk_at dksJ11_putChar_1 21 rfl rfl)
theorem dJ11_putChar_46 : decode cJ11_putChar 46 = .ok (.iload_n 2, 1) := dk_28 (dk_at dksJ11_putChar_1 22 rfl rfl)
theorem dJ11_putChar_47 : decode cJ11_putChar 47 = .ok (.getstatic 63, 3) := dk_178 0 63 (dk_at dksJ11_putChar_2 0 rfl rfl)
theorem dJ11_putChar_50 : decode cJ11_putChar 50 = .ok (.ishr, 1) := dk_122 (dk_at dksJ11_putChar_2 3 rfl rfl)
theorem dJ11_putChar_51 : decode cJ11_putChar 51 = .ok (.i2b, 1) := dk_145 (dk_at dksJ11_putChar_2 4 rfl rfl)
theorem dJ11_putChar_52 : decode cJ11_putChar 52 = .ok (.bastore, 1) := dk_84 (dk_at dksJ11_putChar_2 5 rfl rfl)
theorem dJ11_putChar_53 : decode cJ11_putChar 53 = .ok (.return_, 1) := dk_177 (dk_at dksJ11_putChar_2 6 rfl rfl)
abbrev cJ11_inflate : ByteArray := prog_29_method_86_code
def yJ11_inflate : MethodName := ⟨RJ11, "inflate", "([BI[BII)V"⟩
def dkwJ11_inflate_1 : List UInt8 := [132, 1, 1, 51, 17, 0, 255, 126, 184, 0, 111, 132, 5, 1, 167, 255, 228, 177]
abbrev dktJ11_inflate_1 : List UInt8 := dkwJ11_inflate_1 ++ []
def dkwJ11_inflate_0 : List UInt8 := [29, 21, 4, 44, 184, 0, 173, 3, 54, 5, 21, 5, 21, 4, 162, 0, 27, 44, 29, 132, 3, 1, 42, 27]
abbrev dktJ11_inflate_0 : List UInt8 := dkwJ11_inflate_0 ++ dktJ11_inflate_1
theorem dksJ11_inflate_0 : cJ11_inflate.data.toList.drop 0 = dktJ11_inflate_0 := by decide +kernel
theorem dksJ11_inflate_1 : cJ11_inflate.data.toList.drop 24 = dktJ11_inflate_1 := dk_seg dksJ11_inflate_0 24 rfl rfl
theorem dJ11_inflate_0 : decode cJ11_inflate 0 = .ok (.iload_n 3, 1) := dk_29 (dk_at dksJ11_inflate_0 0 rfl rfl)
theorem dJ11_inflate_1 : decode cJ11_inflate 1 = .ok (.iload 4, 2) := dk_21 4 (dk_at dksJ11_inflate_0 1 rfl rfl)
theorem dJ11_inflate_3 : decode cJ11_inflate 3 = .ok (.aload_n 2, 1) := dk_44 (dk_at dksJ11_inflate_0 3 rfl rfl)
theorem dJ11_inflate_4 : decode cJ11_inflate 4 = .ok (.invokestatic 173, 3) := dk_184 0 173 (dk_at dksJ11_inflate_0 4 rfl rfl)
theorem dJ11_inflate_7 : decode cJ11_inflate 7 = .ok (.iconst 0, 1) := dk_3 (dk_at dksJ11_inflate_0 7 rfl rfl)
theorem dJ11_inflate_8 : decode cJ11_inflate 8 = .ok (.istore 5, 2) := dk_54 5 (dk_at dksJ11_inflate_0 8 rfl rfl)
theorem dJ11_inflate_10 : decode cJ11_inflate 10 = .ok (.iload 5, 2) := dk_21 5 (dk_at dksJ11_inflate_0 10 rfl rfl)
theorem dJ11_inflate_12 : decode cJ11_inflate 12 = .ok (.iload 4, 2) := dk_21 4 (dk_at dksJ11_inflate_0 12 rfl rfl)
theorem dJ11_inflate_14 : decode cJ11_inflate 14 = .ok (.if_icmp .ge 27, 3) := dk_162 0 27 (dk_at dksJ11_inflate_0 14 rfl rfl)
theorem dJ11_inflate_17 : decode cJ11_inflate 17 = .ok (.aload_n 2, 1) := dk_44 (dk_at dksJ11_inflate_0 17 rfl rfl)
theorem dJ11_inflate_18 : decode cJ11_inflate 18 = .ok (.iload_n 3, 1) := dk_29 (dk_at dksJ11_inflate_0 18 rfl rfl)
theorem dJ11_inflate_19 : decode cJ11_inflate 19 = .ok (.iinc 3 1, 3) := dk_132 3 1 (dk_at dksJ11_inflate_0 19 rfl rfl)
theorem dJ11_inflate_22 : decode cJ11_inflate 22 = .ok (.aload_n 0, 1) := dk_42 (dk_at dksJ11_inflate_0 22 rfl rfl)
theorem dJ11_inflate_23 : decode cJ11_inflate 23 = .ok (.iload_n 1, 1) := dk_27 (dk_at dksJ11_inflate_0 23 rfl rfl)
theorem dJ11_inflate_24 : decode cJ11_inflate 24 = .ok (.iinc 1 1, 3) := dk_132 1 1 (dk_at dksJ11_inflate_1 0 rfl rfl)
theorem dJ11_inflate_27 : decode cJ11_inflate 27 = .ok (.baload, 1) := dk_51 (dk_at dksJ11_inflate_1 3 rfl rfl)
theorem dJ11_inflate_28 : decode cJ11_inflate 28 = .ok (.sipush 255, 3) := dk_17 0 255 (dk_at dksJ11_inflate_1 4 rfl rfl)
theorem dJ11_inflate_31 : decode cJ11_inflate 31 = .ok (.iand, 1) := dk_126 (dk_at dksJ11_inflate_1 7 rfl rfl)
theorem dJ11_inflate_32 : decode cJ11_inflate 32 = .ok (.invokestatic 111, 3) := dk_184 0 111 (dk_at dksJ11_inflate_1 8 rfl rfl)
theorem dJ11_inflate_35 : decode cJ11_inflate 35 = .ok (.iinc 5 1, 3) := dk_132 5 1 (dk_at dksJ11_inflate_1 11 rfl rfl)
theorem dJ11_inflate_38 : decode cJ11_inflate 38 = .ok (.goto (-28), 3) := dk_167 255 228 (dk_at dksJ11_inflate_1 14 rfl rfl)
theorem dJ11_inflate_41 : decode cJ11_inflate 41 = .ok (.return_, 1) := dk_177 (dk_at dksJ11_inflate_1 17 rfl rfl)
abbrev cJ11_checkBoundsOffCount : ByteArray := prog_29_method_94_code
def yJ11_checkBoundsOffCount : MethodName := ⟨RJ11, "checkBoundsOffCount", "(II[B)V"⟩
def dkwJ11_checkBoundsOffCount_0 : List UInt8 := [26, 27, 44, 184, 0, 48, 184, 1, 163, 87, 177]
abbrev dktJ11_checkBoundsOffCount_0 : List UInt8 := dkwJ11_checkBoundsOffCount_0 ++ []
theorem dksJ11_checkBoundsOffCount_0 : cJ11_checkBoundsOffCount.data.toList.drop 0 = dktJ11_checkBoundsOffCount_0 := by decide +kernel
theorem dJ11_checkBoundsOffCount_0 : decode cJ11_checkBoundsOffCount 0 = .ok (.iload_n 0, 1) := dk_26 (dk_at dksJ11_checkBoundsOffCount_0 0 rfl rfl)
theorem dJ11_checkBoundsOffCount_1 : decode cJ11_checkBoundsOffCount 1 = .ok (.iload_n 1, 1) := dk_27 (dk_at dksJ11_checkBoundsOffCount_0 1 rfl rfl)
theorem dJ11_checkBoundsOffCount_2 : decode cJ11_checkBoundsOffCount 2 = .ok (.aload_n 2, 1) := dk_44 (dk_at dksJ11_checkBoundsOffCount_0 2 rfl rfl)
theorem dJ11_checkBoundsOffCount_3 : decode cJ11_checkBoundsOffCount 3 = .ok (.invokestatic 48, 3) := dk_184 0 48 (dk_at dksJ11_checkBoundsOffCount_0 3 rfl rfl)
theorem dJ11_checkBoundsOffCount_6 : decode cJ11_checkBoundsOffCount 6 = .ok (.invokestatic 419, 3) := dk_184 1 163 (dk_at dksJ11_checkBoundsOffCount_0 6 rfl rfl)
theorem dJ11_checkBoundsOffCount_9 : decode cJ11_checkBoundsOffCount 9 = .ok (.pop, 1) := dk_87 (dk_at dksJ11_checkBoundsOffCount_0 9 rfl rfl)
theorem dJ11_checkBoundsOffCount_10 : decode cJ11_checkBoundsOffCount 10 = .ok (.return_, 1) := dk_177 (dk_at dksJ11_checkBoundsOffCount_0 10 rfl rfl)
abbrev cJ11_compress : ByteArray := prog_29_method_17_code
def yJ11_compress : MethodName := ⟨RJ11, "compress", "([BII)[B"⟩
def dkwJ11_compress_2 : List UInt8 := [25, 5, 3, 45, 3, 28, 184, 0, 123, 28, 159, 0, 6, 25, 5, 176, 45, 176]
abbrev dktJ11_compress_2 : List UInt8 := dkwJ11_compress_2 ++ []
def dkwJ11_compress_1 : List UInt8 := [27, 28, 96, 184, 0, 11, 184, 0, 126, 58, 5, 25, 5, 21, 4, 184, 0, 71, 17, 0, 255, 163, 0, 16]
abbrev dktJ11_compress_1 : List UInt8 := dkwJ11_compress_1 ++ dktJ11_compress_2
def dkwJ11_compress_0 : List UInt8 := [28, 188, 8, 78, 42, 27, 45, 3, 28, 184, 0, 123, 54, 4, 21, 4, 28, 159, 0, 47, 42, 27, 4, 120]
abbrev dktJ11_compress_0 : List UInt8 := dkwJ11_compress_0 ++ dktJ11_compress_1
theorem dksJ11_compress_0 : cJ11_compress.data.toList.drop 0 = dktJ11_compress_0 := by decide +kernel
theorem dksJ11_compress_1 : cJ11_compress.data.toList.drop 24 = dktJ11_compress_1 := dk_seg dksJ11_compress_0 24 rfl rfl
theorem dksJ11_compress_2 : cJ11_compress.data.toList.drop 48 = dktJ11_compress_2 := dk_seg dksJ11_compress_1 24 rfl rfl
theorem dJ11_compress_0 : decode cJ11_compress 0 = .ok (.iload_n 2, 1) := dk_28 (dk_at dksJ11_compress_0 0 rfl rfl)
theorem dJ11_compress_1 : decode cJ11_compress 1 = .ok (.newarray .byte, 2) := dk_188_8 (dk_at dksJ11_compress_0 1 rfl rfl)
theorem dJ11_compress_3 : decode cJ11_compress 3 = .ok (.astore_n 3, 1) := dk_78 (dk_at dksJ11_compress_0 3 rfl rfl)
theorem dJ11_compress_4 : decode cJ11_compress 4 = .ok (.aload_n 0, 1) := dk_42 (dk_at dksJ11_compress_0 4 rfl rfl)
theorem dJ11_compress_5 : decode cJ11_compress 5 = .ok (.iload_n 1, 1) := dk_27 (dk_at dksJ11_compress_0 5 rfl rfl)
theorem dJ11_compress_6 : decode cJ11_compress 6 = .ok (.aload_n 3, 1) := dk_45 (dk_at dksJ11_compress_0 6 rfl rfl)
theorem dJ11_compress_7 : decode cJ11_compress 7 = .ok (.iconst 0, 1) := dk_3 (dk_at dksJ11_compress_0 7 rfl rfl)
theorem dJ11_compress_8 : decode cJ11_compress 8 = .ok (.iload_n 2, 1) := dk_28 (dk_at dksJ11_compress_0 8 rfl rfl)
theorem dJ11_compress_9 : decode cJ11_compress 9 = .ok (.invokestatic 123, 3) := dk_184 0 123 (dk_at dksJ11_compress_0 9 rfl rfl)
theorem dJ11_compress_12 : decode cJ11_compress 12 = .ok (.istore 4, 2) := dk_54 4 (dk_at dksJ11_compress_0 12 rfl rfl)
theorem dJ11_compress_14 : decode cJ11_compress 14 = .ok (.iload 4, 2) := dk_21 4 (dk_at dksJ11_compress_0 14 rfl rfl)
theorem dJ11_compress_16 : decode cJ11_compress 16 = .ok (.iload_n 2, 1) := dk_28 (dk_at dksJ11_compress_0 16 rfl rfl)
theorem dJ11_compress_17 : decode cJ11_compress 17 = .ok (.if_icmp .eq 47, 3) := dk_159 0 47 (dk_at dksJ11_compress_0 17 rfl rfl)
theorem dJ11_compress_20 : decode cJ11_compress 20 = .ok (.aload_n 0, 1) := dk_42 (dk_at dksJ11_compress_0 20 rfl rfl)
theorem dJ11_compress_21 : decode cJ11_compress 21 = .ok (.iload_n 1, 1) := dk_27 (dk_at dksJ11_compress_0 21 rfl rfl)
theorem dJ11_compress_22 : decode cJ11_compress 22 = .ok (.iconst 1, 1) := dk_4 (dk_at dksJ11_compress_0 22 rfl rfl)
theorem dJ11_compress_23 : decode cJ11_compress 23 = .ok (.ishl, 1) := dk_120 (dk_at dksJ11_compress_0 23 rfl rfl)
theorem dJ11_compress_24 : decode cJ11_compress 24 = .ok (.iload_n 1, 1) := dk_27 (dk_at dksJ11_compress_1 0 rfl rfl)
theorem dJ11_compress_25 : decode cJ11_compress 25 = .ok (.iload_n 2, 1) := dk_28 (dk_at dksJ11_compress_1 1 rfl rfl)
theorem dJ11_compress_26 : decode cJ11_compress 26 = .ok (.iadd, 1) := dk_96 (dk_at dksJ11_compress_1 2 rfl rfl)
theorem dJ11_compress_27 : decode cJ11_compress 27 = .ok (.invokestatic 11, 3) := dk_184 0 11 (dk_at dksJ11_compress_1 3 rfl rfl)
theorem dJ11_compress_30 : decode cJ11_compress 30 = .ok (.invokestatic 126, 3) := dk_184 0 126 (dk_at dksJ11_compress_1 6 rfl rfl)
theorem dJ11_compress_33 : decode cJ11_compress 33 = .ok (.astore 5, 2) := dk_58 5 (dk_at dksJ11_compress_1 9 rfl rfl)
theorem dJ11_compress_35 : decode cJ11_compress 35 = .ok (.aload 5, 2) := dk_25 5 (dk_at dksJ11_compress_1 11 rfl rfl)
theorem dJ11_compress_37 : decode cJ11_compress 37 = .ok (.iload 4, 2) := dk_21 4 (dk_at dksJ11_compress_1 13 rfl rfl)
theorem dJ11_compress_39 : decode cJ11_compress 39 = .ok (.invokestatic 71, 3) := dk_184 0 71 (dk_at dksJ11_compress_1 15 rfl rfl)
theorem dJ11_compress_42 : decode cJ11_compress 42 = .ok (.sipush 255, 3) := dk_17 0 255 (dk_at dksJ11_compress_1 18 rfl rfl)
theorem dJ11_compress_45 : decode cJ11_compress 45 = .ok (.if_icmp .gt 16, 3) := dk_163 0 16 (dk_at dksJ11_compress_1 21 rfl rfl)
theorem dJ11_compress_48 : decode cJ11_compress 48 = .ok (.aload 5, 2) := dk_25 5 (dk_at dksJ11_compress_2 0 rfl rfl)
theorem dJ11_compress_50 : decode cJ11_compress 50 = .ok (.iconst 0, 1) := dk_3 (dk_at dksJ11_compress_2 2 rfl rfl)
theorem dJ11_compress_51 : decode cJ11_compress 51 = .ok (.aload_n 3, 1) := dk_45 (dk_at dksJ11_compress_2 3 rfl rfl)
theorem dJ11_compress_52 : decode cJ11_compress 52 = .ok (.iconst 0, 1) := dk_3 (dk_at dksJ11_compress_2 4 rfl rfl)
theorem dJ11_compress_53 : decode cJ11_compress 53 = .ok (.iload_n 2, 1) := dk_28 (dk_at dksJ11_compress_2 5 rfl rfl)
theorem dJ11_compress_54 : decode cJ11_compress 54 = .ok (.invokestatic 123, 3) := dk_184 0 123 (dk_at dksJ11_compress_2 6 rfl rfl)
theorem dJ11_compress_57 : decode cJ11_compress 57 = .ok (.iload_n 2, 1) := dk_28 (dk_at dksJ11_compress_2 9 rfl rfl)
theorem dJ11_compress_58 : decode cJ11_compress 58 = .ok (.if_icmp .eq 6, 3) := dk_159 0 6 (dk_at dksJ11_compress_2 10 rfl rfl)
theorem dJ11_compress_61 : decode cJ11_compress 61 = .ok (.aload 5, 2) := dk_25 5 (dk_at dksJ11_compress_2 13 rfl rfl)
theorem dJ11_compress_63 : decode cJ11_compress 63 = .ok (.areturn, 1) := dk_176 (dk_at dksJ11_compress_2 15 rfl rfl)
theorem dJ11_compress_64 : decode cJ11_compress 64 = .ok (.aload_n 3, 1) := dk_45 (dk_at dksJ11_compress_2 16 rfl rfl)
theorem dJ11_compress_65 : decode cJ11_compress 65 = .ok (.areturn, 1) := dk_176 (dk_at dksJ11_compress_2 17 rfl rfl)
abbrev cJ11_compress_2 : ByteArray := prog_29_method_22_code
def yJ11_compress_2 : MethodName := ⟨RJ11, "compress", "([BI[BII)I"⟩
def dkwJ11_compress_2_2 : List UInt8 := [132, 5, 1, 167, 255, 216, 21, 4, 172]
abbrev dktJ11_compress_2_2 : List UInt8 := dkwJ11_compress_2_2 ++ []
def dkwJ11_compress_2_1 : List UInt8 := [21, 6, 17, 0, 255, 164, 0, 6, 21, 5, 172, 44, 29, 21, 6, 145, 84, 132, 1, 1, 132, 3, 1]
abbrev dktJ11_compress_2_1 : List UInt8 := dkwJ11_compress_2_1 ++ dktJ11_compress_2_2
def dkwJ11_compress_2_0 : List UInt8 := [27, 21, 4, 42, 184, 0, 173, 3, 54, 5, 21, 5, 21, 4, 162, 0, 39, 42, 27, 184, 0, 71, 54, 6]
abbrev dktJ11_compress_2_0 : List UInt8 := dkwJ11_compress_2_0 ++ dktJ11_compress_2_1
theorem dksJ11_compress_2_0 : cJ11_compress_2.data.toList.drop 0 = dktJ11_compress_2_0 := by decide +kernel
theorem dksJ11_compress_2_1 : cJ11_compress_2.data.toList.drop 24 = dktJ11_compress_2_1 := dk_seg dksJ11_compress_2_0 24 rfl rfl
theorem dksJ11_compress_2_2 : cJ11_compress_2.data.toList.drop 47 = dktJ11_compress_2_2 := dk_seg dksJ11_compress_2_1 23 rfl rfl
theorem dJ11_compress_2_0 : decode cJ11_compress_2 0 = .ok (.iload_n 1, 1) := dk_27 (dk_at dksJ11_compress_2_0 0 rfl rfl)
theorem dJ11_compress_2_1 : decode cJ11_compress_2 1 = .ok (.iload 4, 2) := dk_21 4 (dk_at dksJ11_compress_2_0 1 rfl rfl)
theorem dJ11_compress_2_3 : decode cJ11_compress_2 3 = .ok (.aload_n 0, 1) := dk_42 (dk_at dksJ11_compress_2_0 3 rfl rfl)
theorem dJ11_compress_2_4 : decode cJ11_compress_2 4 = .ok (.invokestatic 173, 3) := dk_184 0 173 (dk_at dksJ11_compress_2_0 4 rfl rfl)
theorem dJ11_compress_2_7 : decode cJ11_compress_2 7 = .ok (.iconst 0, 1) := dk_3 (dk_at dksJ11_compress_2_0 7 rfl rfl)
theorem dJ11_compress_2_8 : decode cJ11_compress_2 8 = .ok (.istore 5, 2) := dk_54 5 (dk_at dksJ11_compress_2_0 8 rfl rfl)
theorem dJ11_compress_2_10 : decode cJ11_compress_2 10 = .ok (.iload 5, 2) := dk_21 5 (dk_at dksJ11_compress_2_0 10 rfl rfl)
theorem dJ11_compress_2_12 : decode cJ11_compress_2 12 = .ok (.iload 4, 2) := dk_21 4 (dk_at dksJ11_compress_2_0 12 rfl rfl)
theorem dJ11_compress_2_14 : decode cJ11_compress_2 14 = .ok (.if_icmp .ge 39, 3) := dk_162 0 39 (dk_at dksJ11_compress_2_0 14 rfl rfl)
theorem dJ11_compress_2_17 : decode cJ11_compress_2 17 = .ok (.aload_n 0, 1) := dk_42 (dk_at dksJ11_compress_2_0 17 rfl rfl)
theorem dJ11_compress_2_18 : decode cJ11_compress_2 18 = .ok (.iload_n 1, 1) := dk_27 (dk_at dksJ11_compress_2_0 18 rfl rfl)
theorem dJ11_compress_2_19 : decode cJ11_compress_2 19 = .ok (.invokestatic 71, 3) := dk_184 0 71 (dk_at dksJ11_compress_2_0 19 rfl rfl)
theorem dJ11_compress_2_22 : decode cJ11_compress_2 22 = .ok (.istore 6, 2) := dk_54 6 (dk_at dksJ11_compress_2_0 22 rfl rfl)
theorem dJ11_compress_2_24 : decode cJ11_compress_2 24 = .ok (.iload 6, 2) := dk_21 6 (dk_at dksJ11_compress_2_1 0 rfl rfl)
theorem dJ11_compress_2_26 : decode cJ11_compress_2 26 = .ok (.sipush 255, 3) := dk_17 0 255 (dk_at dksJ11_compress_2_1 2 rfl rfl)
theorem dJ11_compress_2_29 : decode cJ11_compress_2 29 = .ok (.if_icmp .le 6, 3) := dk_164 0 6 (dk_at dksJ11_compress_2_1 5 rfl rfl)
theorem dJ11_compress_2_32 : decode cJ11_compress_2 32 = .ok (.iload 5, 2) := dk_21 5 (dk_at dksJ11_compress_2_1 8 rfl rfl)
theorem dJ11_compress_2_34 : decode cJ11_compress_2 34 = .ok (.ireturn, 1) := dk_172 (dk_at dksJ11_compress_2_1 10 rfl rfl)
theorem dJ11_compress_2_35 : decode cJ11_compress_2 35 = .ok (.aload_n 2, 1) := dk_44 (dk_at dksJ11_compress_2_1 11 rfl rfl)
theorem dJ11_compress_2_36 : decode cJ11_compress_2 36 = .ok (.iload_n 3, 1) := dk_29 (dk_at dksJ11_compress_2_1 12 rfl rfl)
theorem dJ11_compress_2_37 : decode cJ11_compress_2 37 = .ok (.iload 6, 2) := dk_21 6 (dk_at dksJ11_compress_2_1 13 rfl rfl)
theorem dJ11_compress_2_39 : decode cJ11_compress_2 39 = .ok (.i2b, 1) := dk_145 (dk_at dksJ11_compress_2_1 15 rfl rfl)
theorem dJ11_compress_2_40 : decode cJ11_compress_2 40 = .ok (.bastore, 1) := dk_84 (dk_at dksJ11_compress_2_1 16 rfl rfl)
theorem dJ11_compress_2_41 : decode cJ11_compress_2 41 = .ok (.iinc 1 1, 3) := dk_132 1 1 (dk_at dksJ11_compress_2_1 17 rfl rfl)
theorem dJ11_compress_2_44 : decode cJ11_compress_2 44 = .ok (.iinc 3 1, 3) := dk_132 3 1 (dk_at dksJ11_compress_2_1 20 rfl rfl)
theorem dJ11_compress_2_47 : decode cJ11_compress_2 47 = .ok (.iinc 5 1, 3) := dk_132 5 1 (dk_at dksJ11_compress_2_2 0 rfl rfl)
theorem dJ11_compress_2_50 : decode cJ11_compress_2 50 = .ok (.goto (-40), 3) := dk_167 255 216 (dk_at dksJ11_compress_2_2 3 rfl rfl)
theorem dJ11_compress_2_53 : decode cJ11_compress_2 53 = .ok (.iload 4, 2) := dk_21 4 (dk_at dksJ11_compress_2_2 6 rfl rfl)
theorem dJ11_compress_2_55 : decode cJ11_compress_2 55 = .ok (.ireturn, 1) := dk_172 (dk_at dksJ11_compress_2_2 8 rfl rfl)
abbrev cJ11_coderFromArrayLen : ByteArray := prog_29_method_15_code
def yJ11_coderFromArrayLen : MethodName := ⟨RJ11, "coderFromArrayLen", "([BI)B"⟩
def dkwJ11_coderFromArrayLen_0 : List UInt8 := [27, 42, 190, 100, 16, 31, 124, 145, 172]
abbrev dktJ11_coderFromArrayLen_0 : List UInt8 := dkwJ11_coderFromArrayLen_0 ++ []
theorem dksJ11_coderFromArrayLen_0 : cJ11_coderFromArrayLen.data.toList.drop 0 = dktJ11_coderFromArrayLen_0 := by decide +kernel
theorem dJ11_coderFromArrayLen_0 : decode cJ11_coderFromArrayLen 0 = .ok (.iload_n 1, 1) := dk_27 (dk_at dksJ11_coderFromArrayLen_0 0 rfl rfl)
theorem dJ11_coderFromArrayLen_1 : decode cJ11_coderFromArrayLen 1 = .ok (.aload_n 0, 1) := dk_42 (dk_at dksJ11_coderFromArrayLen_0 1 rfl rfl)
theorem dJ11_coderFromArrayLen_2 : decode cJ11_coderFromArrayLen 2 = .ok (.arraylength, 1) := dk_190 (dk_at dksJ11_coderFromArrayLen_0 2 rfl rfl)
theorem dJ11_coderFromArrayLen_3 : decode cJ11_coderFromArrayLen 3 = .ok (.isub, 1) := dk_100 (dk_at dksJ11_coderFromArrayLen_0 3 rfl rfl)
theorem dJ11_coderFromArrayLen_4 : decode cJ11_coderFromArrayLen 4 = .ok (.bipush 31, 2) := dk_16 31 (dk_at dksJ11_coderFromArrayLen_0 4 rfl rfl)
theorem dJ11_coderFromArrayLen_6 : decode cJ11_coderFromArrayLen 6 = .ok (.iushr, 1) := dk_124 (dk_at dksJ11_coderFromArrayLen_0 6 rfl rfl)
theorem dJ11_coderFromArrayLen_7 : decode cJ11_coderFromArrayLen 7 = .ok (.i2b, 1) := dk_145 (dk_at dksJ11_coderFromArrayLen_0 7 rfl rfl)
theorem dJ11_coderFromArrayLen_8 : decode cJ11_coderFromArrayLen 8 = .ok (.ireturn, 1) := dk_172 (dk_at dksJ11_coderFromArrayLen_0 8 rfl rfl)
theorem q133 : (Jvm.Cond.initialized "java/lang/StringUTF16") ∈ lw_all := lw_g (lw_at lw_m1 16 rfl) rfl
theorem q392 : (Jvm.Cond.static ({ cls := "java/lang/StringUTF16", name := "charAt", desc := "([BI)C" } : Jvm.MethodName)) ∈ lw_all := lw_g (lw_at lw_m2 35 rfl) rfl
theorem q393 : (Jvm.Cond.code ({ cls := "java/lang/StringUTF16", name := "charAt", desc := "([BI)C" } : Jvm.MethodName) prog_29_method_83_code (2 : Nat) (Option.some Jvm.ClassFile.FieldType.char)) ∈ lw_all := lw_g (lw_at lw_m2 36 rfl) rfl
theorem q394 : (Jvm.Cond.methodLink "java/lang/StringUTF16" (67 : Nat) ({ cls := "java/lang/StringUTF16", name := "checkIndex", desc := "(I[B)V" } : Jvm.MethodName)) ∈ lw_all := lw_g (lw_at lw_m2 37 rfl) rfl
theorem q395 : (Jvm.Cond.static ({ cls := "java/lang/StringUTF16", name := "checkIndex", desc := "(I[B)V" } : Jvm.MethodName)) ∈ lw_all := lw_g (lw_at lw_m2 38 rfl) rfl
theorem q396 : (Jvm.Cond.code ({ cls := "java/lang/StringUTF16", name := "checkIndex", desc := "(I[B)V" } : Jvm.MethodName) prog_29_method_91_code (2 : Nat) (Option.none : Option Jvm.ClassFile.FieldType)) ∈ lw_all := lw_g (lw_at lw_m2 39 rfl) rfl
theorem q397 : (Jvm.Cond.methodLink "java/lang/StringUTF16" (48 : Nat) ({ cls := "java/lang/StringUTF16", name := "length", desc := "([B)I" } : Jvm.MethodName)) ∈ lw_all := lw_g (lw_at lw_m2 40 rfl) rfl
theorem q398 : (Jvm.Cond.static ({ cls := "java/lang/StringUTF16", name := "length", desc := "([B)I" } : Jvm.MethodName)) ∈ lw_all := lw_g (lw_at lw_m2 41 rfl) rfl
theorem q399 : (Jvm.Cond.code ({ cls := "java/lang/StringUTF16", name := "length", desc := "([B)I" } : Jvm.MethodName) prog_29_method_6_code (1 : Nat) (Option.some Jvm.ClassFile.FieldType.int)) ∈ lw_all := lw_g (lw_at lw_m2 42 rfl) rfl
theorem q400 : (Jvm.Cond.methodLink "java/lang/StringUTF16" (414 : Nat) ({ cls := "java/lang/String", name := "checkIndex", desc := "(II)V" } : Jvm.MethodName)) ∈ lw_all := lw_g (lw_at lw_m2 43 rfl) rfl
theorem q401 : (Jvm.Cond.methodLink "java/lang/StringUTF16" (71 : Nat) ({ cls := "java/lang/StringUTF16", name := "getChar", desc := "([BI)C" } : Jvm.MethodName)) ∈ lw_all := lw_g (lw_at lw_m2 44 rfl) rfl
theorem q402 : (Jvm.Cond.static ({ cls := "java/lang/StringUTF16", name := "getChar", desc := "([BI)C" } : Jvm.MethodName)) ∈ lw_all := lw_g (lw_at lw_m2 45 rfl) rfl
theorem q403 : (Jvm.Cond.code ({ cls := "java/lang/StringUTF16", name := "getChar", desc := "([BI)C" } : Jvm.MethodName) prog_29_method_5_code (2 : Nat) (Option.some Jvm.ClassFile.FieldType.char)) ∈ lw_all := lw_g (lw_at lw_m2 46 rfl) rfl
theorem q404 : (Jvm.Cond.fieldLink "java/lang/StringUTF16" (44 : Nat) "java/lang/StringUTF16" "$assertionsDisabled" "Z") ∈ lw_all := lw_g (lw_at lw_m2 47 rfl) rfl
theorem q405 : (Jvm.Cond.laysStatic "java/lang/StringUTF16" "$assertionsDisabled" "Z") ∈ lw_tbl := lw_at lw_m2 48 rfl
theorem q406 : (Jvm.Cond.fieldLink "java/lang/StringUTF16" (59 : Nat) "java/lang/StringUTF16" "HI_BYTE_SHIFT" "I") ∈ lw_all := lw_g (lw_at lw_m2 49 rfl) rfl
theorem q407 : (Jvm.Cond.laysStatic "java/lang/StringUTF16" "HI_BYTE_SHIFT" "I") ∈ lw_tbl := lw_at lw_m2 50 rfl
theorem q408 : (Jvm.Cond.fieldLink "java/lang/StringUTF16" (63 : Nat) "java/lang/StringUTF16" "LO_BYTE_SHIFT" "I") ∈ lw_all := lw_g (lw_at lw_m2 51 rfl) rfl
theorem q409 : (Jvm.Cond.laysStatic "java/lang/StringUTF16" "LO_BYTE_SHIFT" "I") ∈ lw_tbl := lw_at lw_m2 52 rfl
theorem q623 : (Jvm.Cond.static ({ cls := "java/lang/StringUTF16", name := "indexOf", desc := "([BIII)I" } : Jvm.MethodName)) ∈ lw_all := lw_g (lw_at lw_m3 26 rfl) rfl
theorem q624 : (Jvm.Cond.code ({ cls := "java/lang/StringUTF16", name := "indexOf", desc := "([BIII)I" } : Jvm.MethodName) prog_29_method_40_code (4 : Nat) (Option.some Jvm.ClassFile.FieldType.int)) ∈ lw_all := lw_g (lw_at lw_m3 27 rfl) rfl
theorem q625 : (Jvm.Cond.methodLink "java/lang/StringUTF16" (224 : Nat) ({ cls := "java/lang/Math", name := "max", desc := "(II)I" } : Jvm.MethodName)) ∈ lw_all := lw_g (lw_at lw_m3 28 rfl) rfl
theorem q626 : (Jvm.Cond.methodLink "java/lang/StringUTF16" (183 : Nat) ({ cls := "java/lang/Math", name := "min", desc := "(II)I" } : Jvm.MethodName)) ∈ lw_all := lw_g (lw_at lw_m3 29 rfl) rfl
theorem q627 : (Jvm.Cond.constant "java/lang/StringUTF16" (227 : Nat) (65536 : Int32)) ∈ lw_all := lw_g (lw_at lw_m3 30 rfl) rfl
theorem q628 : (Jvm.Cond.methodLink "java/lang/StringUTF16" (228 : Nat) ({ cls := "java/lang/StringUTF16", name := "indexOfChar", desc := "([BIII)I" } : Jvm.MethodName)) ∈ lw_all := lw_g (lw_at lw_m3 31 rfl) rfl
theorem q629 : (Jvm.Cond.static ({ cls := "java/lang/StringUTF16", name := "indexOfChar", desc := "([BIII)I" } : Jvm.MethodName)) ∈ lw_all := lw_g (lw_at lw_m3 32 rfl) rfl
theorem q630 : (Jvm.Cond.code ({ cls := "java/lang/StringUTF16", name := "indexOfChar", desc := "([BIII)I" } : Jvm.MethodName) prog_29_method_47_code (4 : Nat) (Option.some Jvm.ClassFile.FieldType.int)) ∈ lw_all := lw_g (lw_at lw_m3 33 rfl) rfl
theorem q631 : (Jvm.Cond.methodLink "java/lang/StringUTF16" (96 : Nat) ({ cls := "java/lang/StringUTF16", name := "checkBoundsBeginEnd", desc := "(II[B)V" } : Jvm.MethodName)) ∈ lw_all := lw_g (lw_at lw_m3 34 rfl) rfl
theorem q632 : (Jvm.Cond.static ({ cls := "java/lang/StringUTF16", name := "checkBoundsBeginEnd", desc := "(II[B)V" } : Jvm.MethodName)) ∈ lw_all := lw_g (lw_at lw_m3 35 rfl) rfl
theorem q633 : (Jvm.Cond.code ({ cls := "java/lang/StringUTF16", name := "checkBoundsBeginEnd", desc := "(II[B)V" } : Jvm.MethodName) prog_29_method_93_code (3 : Nat) (Option.none : Option Jvm.ClassFile.FieldType)) ∈ lw_all := lw_g (lw_at lw_m3 36 rfl) rfl
theorem q634 : (Jvm.Cond.methodLink "java/lang/StringUTF16" (241 : Nat) ({ cls := "java/lang/String", name := "checkBoundsBeginEnd", desc := "(III)V" } : Jvm.MethodName)) ∈ lw_all := lw_g (lw_at lw_m3 37 rfl) rfl
theorem q640 : (Jvm.Cond.methodLink "java/lang/StringUTF16" (244 : Nat) ({ cls := "java/lang/StringUTF16", name := "indexOfCharUnsafe", desc := "([BIII)I" } : Jvm.MethodName)) ∈ lw_all := lw_g (lw_at lw_m3 43 rfl) rfl
theorem q641 : (Jvm.Cond.static ({ cls := "java/lang/StringUTF16", name := "indexOfCharUnsafe", desc := "([BIII)I" } : Jvm.MethodName)) ∈ lw_all := lw_g (lw_at lw_m3 44 rfl) rfl
theorem q642 : (Jvm.Cond.code ({ cls := "java/lang/StringUTF16", name := "indexOfCharUnsafe", desc := "([BIII)I" } : Jvm.MethodName) prog_29_method_48_code (5 : Nat) (Option.some Jvm.ClassFile.FieldType.int)) ∈ lw_all := lw_g (lw_at lw_m3 45 rfl) rfl
theorem q643 : (Jvm.Cond.methodLink "java/lang/StringUTF16" (232 : Nat) ({ cls := "java/lang/StringUTF16", name := "indexOfSupplementary", desc := "([BIII)I" } : Jvm.MethodName)) ∈ lw_all := lw_g (lw_at lw_m3 46 rfl) rfl
theorem q644 : (Jvm.Cond.static ({ cls := "java/lang/StringUTF16", name := "indexOfSupplementary", desc := "([BIII)I" } : Jvm.MethodName)) ∈ lw_all := lw_g (lw_at lw_m3 47 rfl) rfl
theorem q645 : (Jvm.Cond.code ({ cls := "java/lang/StringUTF16", name := "indexOfSupplementary", desc := "([BIII)I" } : Jvm.MethodName) prog_29_method_49_code (7 : Nat) (Option.some Jvm.ClassFile.FieldType.int)) ∈ lw_all := lw_g (lw_at lw_m3 48 rfl) rfl
theorem q646 : (Jvm.Cond.methodLink "java/lang/StringUTF16" (164 : Nat) ({ cls := "java/lang/Character", name := "isValidCodePoint", desc := "(I)Z" } : Jvm.MethodName)) ∈ lw_all := lw_g (lw_at lw_m3 49 rfl) rfl
theorem q649 : (Jvm.Cond.methodLink "java/lang/StringUTF16" (157 : Nat) ({ cls := "java/lang/Character", name := "highSurrogate", desc := "(I)C" } : Jvm.MethodName)) ∈ lw_all := lw_g (lw_at lw_m3 52 rfl) rfl
theorem q653 : (Jvm.Cond.methodLink "java/lang/StringUTF16" (161 : Nat) ({ cls := "java/lang/Character", name := "lowSurrogate", desc := "(I)C" } : Jvm.MethodName)) ∈ lw_all := lw_g (lw_at lw_m3 56 rfl) rfl
theorem q1216 : (Jvm.Cond.static ({ cls := "java/lang/StringUTF16", name := "newBytesFor", desc := "(I)[B" } : Jvm.MethodName)) ∈ lw_all := lw_g (lw_at lw_m5 139 rfl) rfl
theorem q1217 : (Jvm.Cond.code ({ cls := "java/lang/StringUTF16", name := "newBytesFor", desc := "(I)[B" } : Jvm.MethodName) prog_29_method_2_code (1 : Nat) (Option.some (Jvm.ClassFile.FieldType.array Jvm.ClassFile.FieldType.byte))) ∈ lw_all := lw_g (lw_at lw_m5 140 rfl) rfl
theorem q1218 : (Jvm.Cond.methodLink "java/lang/StringUTF16" (11 : Nat) ({ cls := "java/lang/StringUTF16", name := "newBytesLength", desc := "(I)I" } : Jvm.MethodName)) ∈ lw_all := lw_g (lw_at lw_m5 141 rfl) rfl
theorem q1219 : (Jvm.Cond.static ({ cls := "java/lang/StringUTF16", name := "newBytesLength", desc := "(I)I" } : Jvm.MethodName)) ∈ lw_all := lw_g (lw_at lw_m5 142 rfl) rfl
theorem q1220 : (Jvm.Cond.code ({ cls := "java/lang/StringUTF16", name := "newBytesLength", desc := "(I)I" } : Jvm.MethodName) prog_29_method_3_code (1 : Nat) (Option.some Jvm.ClassFile.FieldType.int)) ∈ lw_all := lw_g (lw_at lw_m5 143 rfl) rfl
theorem q1221 : (Jvm.Cond.constant "java/lang/StringUTF16" (20 : Nat) (1073741823 : Int32)) ∈ lw_all := lw_g (lw_at lw_m5 144 rfl) rfl
theorem q1277 : (Jvm.Cond.static ({ cls := "java/lang/StringUTF16", name := "putCharsAt", desc := "([BICCCC)I" } : Jvm.MethodName)) ∈ lw_all := lw_g (lw_at lw_m5 200 rfl) rfl
theorem q1278 : (Jvm.Cond.code ({ cls := "java/lang/StringUTF16", name := "putCharsAt", desc := "([BICCCC)I" } : Jvm.MethodName) prog_29_method_81_code (7 : Nat) (Option.some Jvm.ClassFile.FieldType.int)) ∈ lw_all := lw_g (lw_at lw_m5 201 rfl) rfl
theorem q1279 : (Jvm.Cond.methodLink "java/lang/StringUTF16" (111 : Nat) ({ cls := "java/lang/StringUTF16", name := "putChar", desc := "([BII)V" } : Jvm.MethodName)) ∈ lw_all := lw_g (lw_at lw_m5 202 rfl) rfl
theorem q1280 : (Jvm.Cond.static ({ cls := "java/lang/StringUTF16", name := "putChar", desc := "([BII)V" } : Jvm.MethodName)) ∈ lw_all := lw_g (lw_at lw_m5 203 rfl) rfl
theorem q1281 : (Jvm.Cond.code ({ cls := "java/lang/StringUTF16", name := "putChar", desc := "([BII)V" } : Jvm.MethodName) prog_29_method_4_code (3 : Nat) (Option.none : Option Jvm.ClassFile.FieldType)) ∈ lw_all := lw_g (lw_at lw_m5 204 rfl) rfl
theorem q1300 : (Jvm.Cond.static ({ cls := "java/lang/StringUTF16", name := "inflate", desc := "([BI[BII)V" } : Jvm.MethodName)) ∈ lw_all := lw_g (lw_at lw_m5 223 rfl) rfl
theorem q1301 : (Jvm.Cond.code ({ cls := "java/lang/StringUTF16", name := "inflate", desc := "([BI[BII)V" } : Jvm.MethodName) prog_29_method_86_code (6 : Nat) (Option.none : Option Jvm.ClassFile.FieldType)) ∈ lw_all := lw_g (lw_at lw_m5 224 rfl) rfl
theorem q1302 : (Jvm.Cond.methodLink "java/lang/StringUTF16" (173 : Nat) ({ cls := "java/lang/StringUTF16", name := "checkBoundsOffCount", desc := "(II[B)V" } : Jvm.MethodName)) ∈ lw_all := lw_g (lw_at lw_m5 225 rfl) rfl
theorem q1303 : (Jvm.Cond.static ({ cls := "java/lang/StringUTF16", name := "checkBoundsOffCount", desc := "(II[B)V" } : Jvm.MethodName)) ∈ lw_all := lw_g (lw_at lw_m5 226 rfl) rfl
theorem q1304 : (Jvm.Cond.code ({ cls := "java/lang/StringUTF16", name := "checkBoundsOffCount", desc := "(II[B)V" } : Jvm.MethodName) prog_29_method_94_code (3 : Nat) (Option.none : Option Jvm.ClassFile.FieldType)) ∈ lw_all := lw_g (lw_at lw_m5 227 rfl) rfl
theorem q1305 : (Jvm.Cond.methodLink "java/lang/StringUTF16" (419 : Nat) ({ cls := "java/lang/String", name := "checkBoundsOffCount", desc := "(III)I" } : Jvm.MethodName)) ∈ lw_all := lw_g (lw_at lw_m5 228 rfl) rfl
theorem q1355 : (Jvm.Cond.static ({ cls := "java/lang/StringUTF16", name := "compress", desc := "([BII)[B" } : Jvm.MethodName)) ∈ lw_all := lw_g (lw_at lw_m6 38 rfl) rfl
theorem q1356 : (Jvm.Cond.code ({ cls := "java/lang/StringUTF16", name := "compress", desc := "([BII)[B" } : Jvm.MethodName) prog_29_method_17_code (6 : Nat) (Option.some (Jvm.ClassFile.FieldType.array Jvm.ClassFile.FieldType.byte))) ∈ lw_all := lw_g (lw_at lw_m6 39 rfl) rfl
theorem q1357 : (Jvm.Cond.methodLink "java/lang/StringUTF16" (123 : Nat) ({ cls := "java/lang/StringUTF16", name := "compress", desc := "([BI[BII)I" } : Jvm.MethodName)) ∈ lw_all := lw_g (lw_at lw_m6 40 rfl) rfl
theorem q1358 : (Jvm.Cond.static ({ cls := "java/lang/StringUTF16", name := "compress", desc := "([BI[BII)I" } : Jvm.MethodName)) ∈ lw_all := lw_g (lw_at lw_m6 41 rfl) rfl
theorem q1359 : (Jvm.Cond.code ({ cls := "java/lang/StringUTF16", name := "compress", desc := "([BI[BII)I" } : Jvm.MethodName) prog_29_method_22_code (7 : Nat) (Option.some Jvm.ClassFile.FieldType.int)) ∈ lw_all := lw_g (lw_at lw_m6 42 rfl) rfl
theorem q1360 : (Jvm.Cond.methodLink "java/lang/StringUTF16" (126 : Nat) ({ cls := "java/util/Arrays", name := "copyOfRange", desc := "([BII)[B" } : Jvm.MethodName)) ∈ lw_all := lw_g (lw_at lw_m6 43 rfl) rfl
theorem q1362 : (Jvm.Cond.static ({ cls := "java/lang/StringUTF16", name := "coderFromArrayLen", desc := "([BI)B" } : Jvm.MethodName)) ∈ lw_all := lw_g (lw_at lw_m6 45 rfl) rfl
theorem q1363 : (Jvm.Cond.code ({ cls := "java/lang/StringUTF16", name := "coderFromArrayLen", desc := "([BI)B" } : Jvm.MethodName) prog_29_method_15_code (2 : Nat) (Option.some Jvm.ClassFile.FieldType.byte)) ∈ lw_all := lw_g (lw_at lw_m6 46 rfl) rfl
/-! java/lang/Math -/
set_option maxRecDepth 100000
def RJ12 : String := "java/lang/Math"
abbrev cJ12_max : ByteArray := prog_23_method_65_code
def yJ12_max : MethodName := ⟨RJ12, "max", "(II)I"⟩
def dkwJ12_max_0 : List UInt8 := [26, 27, 161, 0, 7, 26, 167, 0, 4, 27, 172]
abbrev dktJ12_max_0 : List UInt8 := dkwJ12_max_0 ++ []
theorem dksJ12_max_0 : cJ12_max.data.toList.drop 0 = dktJ12_max_0 := by decide +kernel
theorem dJ12_max_0 : decode cJ12_max 0 = .ok (.iload_n 0, 1) := dk_26 (dk_at dksJ12_max_0 0 rfl rfl)
theorem dJ12_max_1 : decode cJ12_max 1 = .ok (.iload_n 1, 1) := dk_27 (dk_at dksJ12_max_0 1 rfl rfl)
theorem dJ12_max_2 : decode cJ12_max 2 = .ok (.if_icmp .lt 7, 3) := dk_161 0 7 (dk_at dksJ12_max_0 2 rfl rfl)
theorem dJ12_max_5 : decode cJ12_max 5 = .ok (.iload_n 0, 1) := dk_26 (dk_at dksJ12_max_0 5 rfl rfl)
theorem dJ12_max_6 : decode cJ12_max 6 = .ok (.goto 4, 3) := dk_167 0 4 (dk_at dksJ12_max_0 6 rfl rfl)
theorem dJ12_max_9 : decode cJ12_max 9 = .ok (.iload_n 1, 1) := dk_27 (dk_at dksJ12_max_0 9 rfl rfl)
theorem dJ12_max_10 : decode cJ12_max 10 = .ok (.ireturn, 1) := dk_172 (dk_at dksJ12_max_0 10 rfl rfl)
abbrev cJ12_min : ByteArray := prog_23_method_69_code
def yJ12_min : MethodName := ⟨RJ12, "min", "(II)I"⟩
def dkwJ12_min_0 : List UInt8 := [26, 27, 163, 0, 7, 26, 167, 0, 4, 27, 172]
abbrev dktJ12_min_0 : List UInt8 := dkwJ12_min_0 ++ []
theorem dksJ12_min_0 : cJ12_min.data.toList.drop 0 = dktJ12_min_0 := by decide +kernel
theorem dJ12_min_0 : decode cJ12_min 0 = .ok (.iload_n 0, 1) := dk_26 (dk_at dksJ12_min_0 0 rfl rfl)
theorem dJ12_min_1 : decode cJ12_min 1 = .ok (.iload_n 1, 1) := dk_27 (dk_at dksJ12_min_0 1 rfl rfl)
theorem dJ12_min_2 : decode cJ12_min 2 = .ok (.if_icmp .gt 7, 3) := dk_163 0 7 (dk_at dksJ12_min_0 2 rfl rfl)
theorem dJ12_min_5 : decode cJ12_min 5 = .ok (.iload_n 0, 1) := dk_26 (dk_at dksJ12_min_0 5 rfl rfl)
theorem dJ12_min_6 : decode cJ12_min 6 = .ok (.goto 4, 3) := dk_167 0 4 (dk_at dksJ12_min_0 6 rfl rfl)
theorem dJ12_min_9 : decode cJ12_min 9 = .ok (.iload_n 1, 1) := dk_27 (dk_at dksJ12_min_0 9 rfl rfl)
theorem dJ12_min_10 : decode cJ12_min 10 = .ok (.ireturn, 1) := dk_172 (dk_at dksJ12_min_0 10 rfl rfl)
abbrev cJ12_abs : ByteArray := prog_23_method_59_code
def yJ12_abs : MethodName := ⟨RJ12, "abs", "(I)I"⟩
def dkwJ12_abs_0 : List UInt8 := [26, 156, 0, 8, 26, 116, 167, 0, 4, 26, 172]
abbrev dktJ12_abs_0 : List UInt8 := dkwJ12_abs_0 ++ []
theorem dksJ12_abs_0 : cJ12_abs.data.toList.drop 0 = dktJ12_abs_0 := by decide +kernel
theorem dJ12_abs_0 : decode cJ12_abs 0 = .ok (.iload_n 0, 1) := dk_26 (dk_at dksJ12_abs_0 0 rfl rfl)
theorem dJ12_abs_1 : decode cJ12_abs 1 = .ok (.ifCond .ge 8, 3) := dk_156 0 8 (dk_at dksJ12_abs_0 1 rfl rfl)
theorem dJ12_abs_4 : decode cJ12_abs 4 = .ok (.iload_n 0, 1) := dk_26 (dk_at dksJ12_abs_0 4 rfl rfl)
theorem dJ12_abs_5 : decode cJ12_abs 5 = .ok (.ineg, 1) := dk_116 (dk_at dksJ12_abs_0 5 rfl rfl)
theorem dJ12_abs_6 : decode cJ12_abs 6 = .ok (.goto 4, 3) := dk_167 0 4 (dk_at dksJ12_abs_0 6 rfl rfl)
theorem dJ12_abs_9 : decode cJ12_abs 9 = .ok (.iload_n 0, 1) := dk_26 (dk_at dksJ12_abs_0 9 rfl rfl)
theorem dJ12_abs_10 : decode cJ12_abs 10 = .ok (.ireturn, 1) := dk_172 (dk_at dksJ12_abs_0 10 rfl rfl)
theorem q135 : (Jvm.Cond.initialized "java/lang/Math") ∈ lw_all := lw_g (lw_at lw_m1 18 rfl) rfl
theorem q614 : (Jvm.Cond.static ({ cls := "java/lang/Math", name := "max", desc := "(II)I" } : Jvm.MethodName)) ∈ lw_all := lw_g (lw_at lw_m3 17 rfl) rfl
theorem q615 : (Jvm.Cond.code ({ cls := "java/lang/Math", name := "max", desc := "(II)I" } : Jvm.MethodName) prog_23_method_65_code (2 : Nat) (Option.some Jvm.ClassFile.FieldType.int)) ∈ lw_all := lw_g (lw_at lw_m3 18 rfl) rfl
theorem q617 : (Jvm.Cond.static ({ cls := "java/lang/Math", name := "min", desc := "(II)I" } : Jvm.MethodName)) ∈ lw_all := lw_g (lw_at lw_m3 20 rfl) rfl
theorem q618 : (Jvm.Cond.code ({ cls := "java/lang/Math", name := "min", desc := "(II)I" } : Jvm.MethodName) prog_23_method_69_code (2 : Nat) (Option.some Jvm.ClassFile.FieldType.int)) ∈ lw_all := lw_g (lw_at lw_m3 21 rfl) rfl
theorem q2086 : (Jvm.Cond.static ({ cls := "java/lang/Math", name := "abs", desc := "(I)I" } : Jvm.MethodName)) ∈ lw_all := lw_g (lw_at lw_m9 49 rfl) rfl
theorem q2087 : (Jvm.Cond.code ({ cls := "java/lang/Math", name := "abs", desc := "(I)I" } : Jvm.MethodName) prog_23_method_59_code (1 : Nat) (Option.some Jvm.ClassFile.FieldType.int)) ∈ lw_all := lw_g (lw_at lw_m9 50 rfl) rfl
/-! java/lang/Character -/
set_option maxRecDepth 100000
def RJ13 : String := "java/lang/Character"
abbrev cJ13_isValidCodePoint : ByteArray := prog_14_method_11_code
def yJ13_isValidCodePoint : MethodName := ⟨RJ13, "isValidCodePoint", "(I)Z"⟩
def dkwJ13_isValidCodePoint_0 : List UInt8 := [26, 16, 16, 124, 60, 27, 16, 17, 162, 0, 7, 4, 167, 0, 4, 3, 172]
abbrev dktJ13_isValidCodePoint_0 : List UInt8 := dkwJ13_isValidCodePoint_0 ++ []
theorem dksJ13_isValidCodePoint_0 : cJ13_isValidCodePoint.data.toList.drop 0 = dktJ13_isValidCodePoint_0 := by decide +kernel
theorem dJ13_isValidCodePoint_0 : decode cJ13_isValidCodePoint 0 = .ok (.iload_n 0, 1) := dk_26 (dk_at dksJ13_isValidCodePoint_0 0 rfl rfl)
theorem dJ13_isValidCodePoint_1 : decode cJ13_isValidCodePoint 1 = .ok (.bipush 16, 2) := dk_16 16 (dk_at dksJ13_isValidCodePoint_0 1 rfl rfl)
theorem dJ13_isValidCodePoint_3 : decode cJ13_isValidCodePoint 3 = .ok (.iushr, 1) := dk_124 (dk_at dksJ13_isValidCodePoint_0 3 rfl rfl)
theorem dJ13_isValidCodePoint_4 : decode cJ13_isValidCodePoint 4 = .ok (.istore_n 1, 1) := dk_60 (dk_at dksJ13_isValidCodePoint_0 4 rfl rfl)
theorem dJ13_isValidCodePoint_5 : decode cJ13_isValidCodePoint 5 = .ok (.iload_n 1, 1) := dk_27 (dk_at dksJ13_isValidCodePoint_0 5 rfl rfl)
theorem dJ13_isValidCodePoint_6 : decode cJ13_isValidCodePoint 6 = .ok (.bipush 17, 2) := dk_16 17 (dk_at dksJ13_isValidCodePoint_0 6 rfl rfl)
theorem dJ13_isValidCodePoint_8 : decode cJ13_isValidCodePoint 8 = .ok (.if_icmp .ge 7, 3) := dk_162 0 7 (dk_at dksJ13_isValidCodePoint_0 8 rfl rfl)
theorem dJ13_isValidCodePoint_11 : decode cJ13_isValidCodePoint 11 = .ok (.iconst 1, 1) := dk_4 (dk_at dksJ13_isValidCodePoint_0 11 rfl rfl)
theorem dJ13_isValidCodePoint_12 : decode cJ13_isValidCodePoint 12 = .ok (.goto 4, 3) := dk_167 0 4 (dk_at dksJ13_isValidCodePoint_0 12 rfl rfl)
theorem dJ13_isValidCodePoint_15 : decode cJ13_isValidCodePoint 15 = .ok (.iconst 0, 1) := dk_3 (dk_at dksJ13_isValidCodePoint_0 15 rfl rfl)
theorem dJ13_isValidCodePoint_16 : decode cJ13_isValidCodePoint 16 = .ok (.ireturn, 1) := dk_172 (dk_at dksJ13_isValidCodePoint_0 16 rfl rfl)
abbrev cJ13_highSurrogate : ByteArray := prog_14_method_28_code
def yJ13_highSurrogate : MethodName := ⟨RJ13, "highSurrogate", "(I)C"⟩
def dkwJ13_highSurrogate_0 : List UInt8 := [26, 16, 10, 124, 18, 110, 96, 146, 172]
abbrev dktJ13_highSurrogate_0 : List UInt8 := dkwJ13_highSurrogate_0 ++ []
theorem dksJ13_highSurrogate_0 : cJ13_highSurrogate.data.toList.drop 0 = dktJ13_highSurrogate_0 := by decide +kernel
theorem dJ13_highSurrogate_0 : decode cJ13_highSurrogate 0 = .ok (.iload_n 0, 1) := dk_26 (dk_at dksJ13_highSurrogate_0 0 rfl rfl)
theorem dJ13_highSurrogate_1 : decode cJ13_highSurrogate 1 = .ok (.bipush 10, 2) := dk_16 10 (dk_at dksJ13_highSurrogate_0 1 rfl rfl)
theorem dJ13_highSurrogate_3 : decode cJ13_highSurrogate 3 = .ok (.iushr, 1) := dk_124 (dk_at dksJ13_highSurrogate_0 3 rfl rfl)
theorem dJ13_highSurrogate_4 : decode cJ13_highSurrogate 4 = .ok (.ldc 110, 2) := dk_18 110 (dk_at dksJ13_highSurrogate_0 4 rfl rfl)
theorem dJ13_highSurrogate_6 : decode cJ13_highSurrogate 6 = .ok (.iadd, 1) := dk_96 (dk_at dksJ13_highSurrogate_0 6 rfl rfl)
theorem dJ13_highSurrogate_7 : decode cJ13_highSurrogate 7 = .ok (.i2c, 1) := dk_146 (dk_at dksJ13_highSurrogate_0 7 rfl rfl)
theorem dJ13_highSurrogate_8 : decode cJ13_highSurrogate 8 = .ok (.ireturn, 1) := dk_172 (dk_at dksJ13_highSurrogate_0 8 rfl rfl)
abbrev cJ13_lowSurrogate : ByteArray := prog_14_method_29_code
def yJ13_lowSurrogate : MethodName := ⟨RJ13, "lowSurrogate", "(I)C"⟩
def dkwJ13_lowSurrogate_0 : List UInt8 := [26, 17, 3, 255, 126, 18, 76, 96, 146, 172]
abbrev dktJ13_lowSurrogate_0 : List UInt8 := dkwJ13_lowSurrogate_0 ++ []
theorem dksJ13_lowSurrogate_0 : cJ13_lowSurrogate.data.toList.drop 0 = dktJ13_lowSurrogate_0 := by decide +kernel
theorem dJ13_lowSurrogate_0 : decode cJ13_lowSurrogate 0 = .ok (.iload_n 0, 1) := dk_26 (dk_at dksJ13_lowSurrogate_0 0 rfl rfl)
theorem dJ13_lowSurrogate_1 : decode cJ13_lowSurrogate 1 = .ok (.sipush 1023, 3) := dk_17 3 255 (dk_at dksJ13_lowSurrogate_0 1 rfl rfl)
theorem dJ13_lowSurrogate_4 : decode cJ13_lowSurrogate 4 = .ok (.iand, 1) := dk_126 (dk_at dksJ13_lowSurrogate_0 4 rfl rfl)
theorem dJ13_lowSurrogate_5 : decode cJ13_lowSurrogate 5 = .ok (.ldc 76, 2) := dk_18 76 (dk_at dksJ13_lowSurrogate_0 5 rfl rfl)
theorem dJ13_lowSurrogate_7 : decode cJ13_lowSurrogate 7 = .ok (.iadd, 1) := dk_96 (dk_at dksJ13_lowSurrogate_0 7 rfl rfl)
theorem dJ13_lowSurrogate_8 : decode cJ13_lowSurrogate 8 = .ok (.i2c, 1) := dk_146 (dk_at dksJ13_lowSurrogate_0 8 rfl rfl)
theorem dJ13_lowSurrogate_9 : decode cJ13_lowSurrogate 9 = .ok (.ireturn, 1) := dk_172 (dk_at dksJ13_lowSurrogate_0 9 rfl rfl)
theorem q136 : (Jvm.Cond.initialized "java/lang/Character") ∈ lw_all := lw_g (lw_at lw_m1 19 rfl) rfl
theorem q647 : (Jvm.Cond.static ({ cls := "java/lang/Character", name := "isValidCodePoint", desc := "(I)Z" } : Jvm.MethodName)) ∈ lw_all := lw_g (lw_at lw_m3 50 rfl) rfl
theorem q648 : (Jvm.Cond.code ({ cls := "java/lang/Character", name := "isValidCodePoint", desc := "(I)Z" } : Jvm.MethodName) prog_14_method_11_code (2 : Nat) (Option.some Jvm.ClassFile.FieldType.boolean)) ∈ lw_all := lw_g (lw_at lw_m3 51 rfl) rfl
theorem q650 : (Jvm.Cond.static ({ cls := "java/lang/Character", name := "highSurrogate", desc := "(I)C" } : Jvm.MethodName)) ∈ lw_all := lw_g (lw_at lw_m3 53 rfl) rfl
theorem q651 : (Jvm.Cond.code ({ cls := "java/lang/Character", name := "highSurrogate", desc := "(I)C" } : Jvm.MethodName) prog_14_method_28_code (1 : Nat) (Option.some Jvm.ClassFile.FieldType.char)) ∈ lw_all := lw_g (lw_at lw_m3 54 rfl) rfl
theorem q652 : (Jvm.Cond.constant "java/lang/Character" (110 : Nat) (55232 : Int32)) ∈ lw_all := lw_g (lw_at lw_m3 55 rfl) rfl
theorem q654 : (Jvm.Cond.static ({ cls := "java/lang/Character", name := "lowSurrogate", desc := "(I)C" } : Jvm.MethodName)) ∈ lw_all := lw_g (lw_at lw_m3 57 rfl) rfl
theorem q655 : (Jvm.Cond.code ({ cls := "java/lang/Character", name := "lowSurrogate", desc := "(I)C" } : Jvm.MethodName) prog_14_method_29_code (1 : Nat) (Option.some Jvm.ClassFile.FieldType.char)) ∈ lw_all := lw_g (lw_at lw_m3 58 rfl) rfl
theorem q656 : (Jvm.Cond.constant "java/lang/Character" (76 : Nat) (56320 : Int32)) ∈ lw_all := lw_g (lw_at lw_m3 59 rfl) rfl
/-! java/lang/RuntimeException -/
set_option maxRecDepth 100000
def RJ14 : String := "java/lang/RuntimeException"
abbrev cJ14_init : ByteArray := prog_25_method_4_code
def yJ14_init : MethodName := ⟨RJ14, "<init>", "(Ljava/lang/Throwable;)V"⟩
def dkwJ14_init_0 : List UInt8 := [42, 43, 183, 0, 13, 177]
abbrev dktJ14_init_0 : List UInt8 := dkwJ14_init_0 ++ []
theorem dksJ14_init_0 : cJ14_init.data.toList.drop 0 = dktJ14_init_0 := by decide +kernel
theorem dJ14_init_0 : decode cJ14_init 0 = .ok (.aload_n 0, 1) := dk_42 (dk_at dksJ14_init_0 0 rfl rfl)
theorem dJ14_init_1 : decode cJ14_init 1 = .ok (.aload_n 1, 1) := dk_43 (dk_at dksJ14_init_0 1 rfl rfl)
theorem dJ14_init_2 : decode cJ14_init 2 = .ok (.invokespecial 13, 3) := dk_183 0 13 (dk_at dksJ14_init_0 2 rfl rfl)
theorem dJ14_init_5 : decode cJ14_init 5 = .ok (.return_, 1) := dk_177 (dk_at dksJ14_init_0 5 rfl rfl)
abbrev cJ14_init_2 : ByteArray := prog_25_method_1_code
def yJ14_init_2 : MethodName := ⟨RJ14, "<init>", "()V"⟩
theorem dJ14_init_2_0 : decode cJ14_init_2 0 = .ok (.aload_n 0, 1) := by decide +kernel
theorem dJ14_init_2_1 : decode cJ14_init_2 1 = .ok (.invokespecial 1, 3) := by decide +kernel
theorem dJ14_init_2_4 : decode cJ14_init_2 4 = .ok (.return_, 1) := by decide +kernel
theorem q137 : (Jvm.Cond.initialized "java/lang/RuntimeException") ∈ lw_all := lw_g (lw_at lw_m1 20 rfl) rfl
theorem q1140 : (Jvm.Cond.declares ({ cls := "java/lang/RuntimeException", name := "<init>", desc := "()V" } : Jvm.MethodName)) ∈ lw_tbl := lw_at lw_m5 63 rfl
theorem q1141 : (Jvm.Cond.declares ({ cls := "java/lang/RuntimeException", name := "<init>", desc := "(Ljava/lang/String;)V" } : Jvm.MethodName)) ∈ lw_tbl := lw_at lw_m5 64 rfl
theorem q1152 : (Jvm.Cond.instanceMethod ({ cls := "java/lang/RuntimeException", name := "<init>", desc := "(Ljava/lang/Throwable;)V" } : Jvm.MethodName)) ∈ lw_all := lw_g (lw_at lw_m5 75 rfl) rfl
theorem q1153 : (Jvm.Cond.code ({ cls := "java/lang/RuntimeException", name := "<init>", desc := "(Ljava/lang/Throwable;)V" } : Jvm.MethodName) prog_25_method_4_code (2 : Nat) (Option.none : Option Jvm.ClassFile.FieldType)) ∈ lw_all := lw_g (lw_at lw_m5 76 rfl) rfl
theorem q1154 : (Jvm.Cond.methodLink "java/lang/RuntimeException" (13 : Nat) ({ cls := "java/lang/Exception", name := "<init>", desc := "(Ljava/lang/Throwable;)V" } : Jvm.MethodName)) ∈ lw_all := lw_g (lw_at lw_m5 77 rfl) rfl
theorem q1392 : (Jvm.Cond.instanceMethod ({ cls := "java/lang/RuntimeException", name := "<init>", desc := "()V" } : Jvm.MethodName)) ∈ lw_all := lw_g (lw_at lw_m6 75 rfl) rfl
theorem q1393 : (Jvm.Cond.code ({ cls := "java/lang/RuntimeException", name := "<init>", desc := "()V" } : Jvm.MethodName) prog_25_method_1_code (1 : Nat) (Option.none : Option Jvm.ClassFile.FieldType)) ∈ lw_all := lw_g (lw_at lw_m6 76 rfl) rfl
theorem q1394 : (Jvm.Cond.methodLink "java/lang/RuntimeException" (1 : Nat) ({ cls := "java/lang/Exception", name := "<init>", desc := "()V" } : Jvm.MethodName)) ∈ lw_all := lw_g (lw_at lw_m6 77 rfl) rfl
/-! java/util/NoSuchElementException -/
set_option maxRecDepth 100000
def RJ15 : String := "java/util/NoSuchElementException"
def TJ15 : u_T := fun k => match k with
  | 0 => ("java/lang/Throwable", "cause", "Ljava/lang/Throwable;", false)
  | 1 => ("java/lang/Throwable", "stackTrace", "[Ljava/lang/StackTraceElement;", false)
  | 2 => ("java/lang/Throwable", "suppressedExceptions", "Ljava/util/List;", false)
  | 3 => ("java/lang/Throwable", "detailMessage", "Ljava/lang/String;", false)
  | 4 => ("java/lang/Throwable", "backtrace", "Ljava/lang/Object;", false)
  | _ => ("java/lang/Throwable", "depth", "I", false)
def tyJ15 : Nat → FieldType := fun k => match k with
  | 0 => .object "java/lang/Throwable"
  | 1 => .array (.object "java/lang/StackTraceElement")
  | 2 => .object "java/util/List"
  | 3 => .object "java/lang/String"
  | 4 => .object "java/lang/Object"
  | _ => .int
abbrev wsJ150 : List Cond := u_ws RJ15 TJ15 6
theorem nmJ15 : ∀ a, a < 6 → ∀ b, b < 6 → a ≠ b → (TJ15 a).2.1 ≠ (TJ15 b).2.1 := by decide +kernel
theorem tyJ15_ok : ∀ k, k < 6 → parseFieldDescriptor (TJ15 k).2.2.1 = some (tyJ15 k) := by decide +kernel
abbrev cJ15_init : ByteArray := prog_53_method_3_code
def yJ15_init : MethodName := ⟨RJ15, "<init>", "(Ljava/lang/Throwable;)V"⟩
def dkwJ15_init_0 : List UInt8 := [42, 43, 183, 0, 10, 177]
abbrev dktJ15_init_0 : List UInt8 := dkwJ15_init_0 ++ []
theorem dksJ15_init_0 : cJ15_init.data.toList.drop 0 = dktJ15_init_0 := by decide +kernel
theorem dJ15_init_0 : decode cJ15_init 0 = .ok (.aload_n 0, 1) := dk_42 (dk_at dksJ15_init_0 0 rfl rfl)
theorem dJ15_init_1 : decode cJ15_init 1 = .ok (.aload_n 1, 1) := dk_43 (dk_at dksJ15_init_0 1 rfl rfl)
theorem dJ15_init_2 : decode cJ15_init 2 = .ok (.invokespecial 10, 3) := dk_183 0 10 (dk_at dksJ15_init_0 2 rfl rfl)
theorem dJ15_init_5 : decode cJ15_init 5 = .ok (.return_, 1) := dk_177 (dk_at dksJ15_init_0 5 rfl rfl)
abbrev cJ15_init_2 : ByteArray := prog_53_method_1_code
def yJ15_init_2 : MethodName := ⟨RJ15, "<init>", "()V"⟩
theorem dJ15_init_2_0 : decode cJ15_init_2 0 = .ok (.aload_n 0, 1) := by decide +kernel
theorem dJ15_init_2_1 : decode cJ15_init_2 1 = .ok (.invokespecial 1, 3) := by decide +kernel
theorem dJ15_init_2_4 : decode cJ15_init_2 4 = .ok (.return_, 1) := by decide +kernel
theorem q138 : (Jvm.Cond.initialized "java/util/NoSuchElementException") ∈ lw_all := lw_g (lw_at lw_m1 21 rfl) rfl
theorem q196 : (Jvm.Cond.selects "java/util/NoSuchElementException" ({ cls := "java/lang/Throwable", name := "fillInStackTrace", desc := "()Ljava/lang/Throwable;" } : Jvm.MethodName) ({ cls := "java/lang/Throwable", name := "fillInStackTrace", desc := "()Ljava/lang/Throwable;" } : Jvm.MethodName)) ∈ lw_all := lw_g (lw_at lw_m1 79 rfl) rfl
theorem q1138 : (Jvm.Cond.instantiable "java/util/NoSuchElementException" (6 : Nat)) ∈ lw_all := lw_g (lw_at lw_m5 61 rfl) rfl
theorem q1139 : (Jvm.Cond.castable "java/util/NoSuchElementException" "java/util/NoSuchElementException") ∈ lw_tbl := lw_at lw_m5 62 rfl
theorem q1142 : (Jvm.Cond.selects "java/util/NoSuchElementException" ({ cls := "java/lang/Throwable", name := "fillInStackTrace", desc := "(I)Ljava/lang/Throwable;" } : Jvm.MethodName) ({ cls := "java/lang/Throwable", name := "fillInStackTrace", desc := "(I)Ljava/lang/Throwable;" } : Jvm.MethodName)) ∈ lw_all := lw_g (lw_at lw_m5 65 rfl) rfl
theorem q1143 : (Jvm.Cond.lays "java/util/NoSuchElementException" "java/lang/Throwable" "cause" "Ljava/lang/Throwable;") ∈ lw_all := lw_g (lw_at lw_m5 66 rfl) rfl
theorem q1144 : (Jvm.Cond.lays "java/util/NoSuchElementException" "java/lang/Throwable" "stackTrace" "[Ljava/lang/StackTraceElement;") ∈ lw_all := lw_g (lw_at lw_m5 67 rfl) rfl
theorem q1145 : (Jvm.Cond.lays "java/util/NoSuchElementException" "java/lang/Throwable" "suppressedExceptions" "Ljava/util/List;") ∈ lw_all := lw_g (lw_at lw_m5 68 rfl) rfl
theorem q1146 : (Jvm.Cond.lays "java/util/NoSuchElementException" "java/lang/Throwable" "detailMessage" "Ljava/lang/String;") ∈ lw_all := lw_g (lw_at lw_m5 69 rfl) rfl
theorem q1147 : (Jvm.Cond.lays "java/util/NoSuchElementException" "java/lang/Throwable" "backtrace" "Ljava/lang/Object;") ∈ lw_all := lw_g (lw_at lw_m5 70 rfl) rfl
theorem q1149 : (Jvm.Cond.instanceMethod ({ cls := "java/util/NoSuchElementException", name := "<init>", desc := "(Ljava/lang/Throwable;)V" } : Jvm.MethodName)) ∈ lw_all := lw_g (lw_at lw_m5 72 rfl) rfl
theorem q1150 : (Jvm.Cond.code ({ cls := "java/util/NoSuchElementException", name := "<init>", desc := "(Ljava/lang/Throwable;)V" } : Jvm.MethodName) prog_53_method_3_code (2 : Nat) (Option.none : Option Jvm.ClassFile.FieldType)) ∈ lw_all := lw_g (lw_at lw_m5 73 rfl) rfl
theorem q1151 : (Jvm.Cond.methodLink "java/util/NoSuchElementException" (10 : Nat) ({ cls := "java/lang/RuntimeException", name := "<init>", desc := "(Ljava/lang/Throwable;)V" } : Jvm.MethodName)) ∈ lw_all := lw_g (lw_at lw_m5 74 rfl) rfl
theorem q1166 : (Jvm.Cond.selects "java/util/NoSuchElementException" ({ cls := "java/lang/Throwable", name := "toString", desc := "()Ljava/lang/String;" } : Jvm.MethodName) ({ cls := "java/lang/Throwable", name := "toString", desc := "()Ljava/lang/String;" } : Jvm.MethodName)) ∈ lw_all := lw_g (lw_at lw_m5 89 rfl) rfl
theorem q1187 : (Jvm.Cond.selects "java/util/NoSuchElementException" ({ cls := "java/lang/Object", name := "getClass", desc := "()Ljava/lang/Class;" } : Jvm.MethodName) ({ cls := "java/lang/Object", name := "getClass", desc := "()Ljava/lang/Class;" } : Jvm.MethodName)) ∈ lw_all := lw_g (lw_at lw_m5 110 rfl) rfl
theorem q1195 : (Jvm.Cond.selects "java/util/NoSuchElementException" ({ cls := "java/lang/Throwable", name := "getLocalizedMessage", desc := "()Ljava/lang/String;" } : Jvm.MethodName) ({ cls := "java/lang/Throwable", name := "getLocalizedMessage", desc := "()Ljava/lang/String;" } : Jvm.MethodName)) ∈ lw_all := lw_g (lw_at lw_m5 118 rfl) rfl
theorem q1203 : (Jvm.Cond.selects "java/util/NoSuchElementException" ({ cls := "java/lang/Throwable", name := "getMessage", desc := "()Ljava/lang/String;" } : Jvm.MethodName) ({ cls := "java/lang/Throwable", name := "getMessage", desc := "()Ljava/lang/String;" } : Jvm.MethodName)) ∈ lw_all := lw_g (lw_at lw_m5 126 rfl) rfl
theorem q1375 : (Jvm.Cond.lays "java/util/NoSuchElementException" "java/lang/Throwable" "depth" "I") ∈ lw_all := lw_g (lw_at lw_m6 58 rfl) rfl
theorem q1376 : (Jvm.Cond.superclass "java/util/NoSuchElementException" "java/lang/RuntimeException") ∈ lw_all := lw_g (lw_at lw_m6 59 rfl) rfl
theorem q1389 : (Jvm.Cond.instanceMethod ({ cls := "java/util/NoSuchElementException", name := "<init>", desc := "()V" } : Jvm.MethodName)) ∈ lw_all := lw_g (lw_at lw_m6 72 rfl) rfl
theorem q1390 : (Jvm.Cond.code ({ cls := "java/util/NoSuchElementException", name := "<init>", desc := "()V" } : Jvm.MethodName) prog_53_method_1_code (1 : Nat) (Option.none : Option Jvm.ClassFile.FieldType)) ∈ lw_all := lw_g (lw_at lw_m6 73 rfl) rfl
theorem q1391 : (Jvm.Cond.methodLink "java/util/NoSuchElementException" (1 : Nat) ({ cls := "java/lang/RuntimeException", name := "<init>", desc := "()V" } : Jvm.MethodName)) ∈ lw_all := lw_g (lw_at lw_m6 74 rfl) rfl
theorem q2353 : (Jvm.Cond.castable "java/util/NoSuchElementException" "java/lang/Object") ∈ lw_tbl := lw_at lw_m10 76 rfl
theorem in_J15 : ∀ w ∈ wsJ150, w ∈ lw_all := lw_in wsJ150 [1143, 1144, 1145, 1146, 1147, 1375] (by decide +kernel) (by decide +kernel)
/-! java/util/LinkedList$Node -/
set_option maxRecDepth 100000
def RJ16 : String := "java/util/LinkedList$Node"
def TJ16 : u_T := fun k => match k with
  | 0 => ("java/util/LinkedList$Node", "item", "Ljava/lang/Object;", false)
  | 1 => ("java/util/LinkedList$Node", "next", "Ljava/util/LinkedList$Node;", false)
  | _ => ("java/util/LinkedList$Node", "prev", "Ljava/util/LinkedList$Node;", false)
def tyJ16 : Nat → FieldType := fun k => match k with
  | 0 => .object "java/lang/Object"
  | 1 => .object "java/util/LinkedList$Node"
  | _ => .object "java/util/LinkedList$Node"
abbrev wsJ160 : List Cond := u_ws RJ16 TJ16 3
theorem nmJ16 : ∀ a, a < 3 → ∀ b, b < 3 → a ≠ b → (TJ16 a).2.1 ≠ (TJ16 b).2.1 := by decide +kernel
theorem tyJ16_ok : ∀ k, k < 3 → parseFieldDescriptor (TJ16 k).2.2.1 = some (tyJ16 k) := by decide +kernel
abbrev cJ16_init : ByteArray := prog_50_method_1_code
def yJ16_init : MethodName := ⟨RJ16, "<init>", "(Ljava/util/LinkedList$Node;Ljava/lang/Object;Ljava/util/LinkedList$Node;)V"⟩
def dkwJ16_init_0 : List UInt8 := [42, 183, 0, 1, 42, 44, 181, 0, 7, 42, 45, 181, 0, 13, 42, 43, 181, 0, 17, 177]
abbrev dktJ16_init_0 : List UInt8 := dkwJ16_init_0 ++ []
theorem dksJ16_init_0 : cJ16_init.data.toList.drop 0 = dktJ16_init_0 := by decide +kernel
theorem dJ16_init_0 : decode cJ16_init 0 = .ok (.aload_n 0, 1) := dk_42 (dk_at dksJ16_init_0 0 rfl rfl)
theorem dJ16_init_1 : decode cJ16_init 1 = .ok (.invokespecial 1, 3) := dk_183 0 1 (dk_at dksJ16_init_0 1 rfl rfl)
theorem dJ16_init_4 : decode cJ16_init 4 = .ok (.aload_n 0, 1) := dk_42 (dk_at dksJ16_init_0 4 rfl rfl)
theorem dJ16_init_5 : decode cJ16_init 5 = .ok (.aload_n 2, 1) := dk_44 (dk_at dksJ16_init_0 5 rfl rfl)
theorem dJ16_init_6 : decode cJ16_init 6 = .ok (.putfield 7, 3) := dk_181 0 7 (dk_at dksJ16_init_0 6 rfl rfl)
theorem dJ16_init_9 : decode cJ16_init 9 = .ok (.aload_n 0, 1) := dk_42 (dk_at dksJ16_init_0 9 rfl rfl)
theorem dJ16_init_10 : decode cJ16_init 10 = .ok (.aload_n 3, 1) := dk_45 (dk_at dksJ16_init_0 10 rfl rfl)
theorem dJ16_init_11 : decode cJ16_init 11 = .ok (.putfield 13, 3) := dk_181 0 13 (dk_at dksJ16_init_0 11 rfl rfl)
theorem dJ16_init_14 : decode cJ16_init 14 = .ok (.aload_n 0, 1) := dk_42 (dk_at dksJ16_init_0 14 rfl rfl)
theorem dJ16_init_15 : decode cJ16_init 15 = .ok (.aload_n 1, 1) := dk_43 (dk_at dksJ16_init_0 15 rfl rfl)
theorem dJ16_init_16 : decode cJ16_init 16 = .ok (.putfield 17, 3) := dk_181 0 17 (dk_at dksJ16_init_0 16 rfl rfl)
theorem dJ16_init_19 : decode cJ16_init 19 = .ok (.return_, 1) := dk_177 (dk_at dksJ16_init_0 19 rfl rfl)
theorem q140 : (Jvm.Cond.initialized "java/util/LinkedList$Node") ∈ lw_all := lw_g (lw_at lw_m1 23 rfl) rfl
theorem q749 : (Jvm.Cond.instantiable "java/util/LinkedList$Node" (3 : Nat)) ∈ lw_all := lw_g (lw_at lw_m3 152 rfl) rfl
theorem q751 : (Jvm.Cond.instanceMethod ({ cls := "java/util/LinkedList$Node", name := "<init>", desc := "(Ljava/util/LinkedList$Node;Ljava/lang/Object;Ljava/util/LinkedList$Node;)V" } : Jvm.MethodName)) ∈ lw_all := lw_g (lw_at lw_m3 154 rfl) rfl
theorem q752 : (Jvm.Cond.code ({ cls := "java/util/LinkedList$Node", name := "<init>", desc := "(Ljava/util/LinkedList$Node;Ljava/lang/Object;Ljava/util/LinkedList$Node;)V" } : Jvm.MethodName) prog_50_method_1_code (4 : Nat) (Option.none : Option Jvm.ClassFile.FieldType)) ∈ lw_all := lw_g (lw_at lw_m3 155 rfl) rfl
theorem q753 : (Jvm.Cond.methodLink "java/util/LinkedList$Node" (1 : Nat) ({ cls := "java/lang/Object", name := "<init>", desc := "()V" } : Jvm.MethodName)) ∈ lw_all := lw_g (lw_at lw_m3 156 rfl) rfl
theorem q754 : (Jvm.Cond.fieldLink "java/util/LinkedList$Node" (7 : Nat) "java/util/LinkedList$Node" "item" "Ljava/lang/Object;") ∈ lw_all := lw_g (lw_at lw_m3 157 rfl) rfl
theorem q757 : (Jvm.Cond.fieldLink "java/util/LinkedList$Node" (13 : Nat) "java/util/LinkedList$Node" "next" "Ljava/util/LinkedList$Node;") ∈ lw_all := lw_g (lw_at lw_m3 160 rfl) rfl
theorem q760 : (Jvm.Cond.fieldLink "java/util/LinkedList$Node" (17 : Nat) "java/util/LinkedList$Node" "prev" "Ljava/util/LinkedList$Node;") ∈ lw_all := lw_g (lw_at lw_m3 163 rfl) rfl
theorem q763 : (Jvm.Cond.lays "java/util/LinkedList$Node" "java/util/LinkedList$Node" "item" "Ljava/lang/Object;") ∈ lw_all := lw_g (lw_at lw_m3 166 rfl) rfl
theorem q764 : (Jvm.Cond.soleField "java/util/LinkedList$Node" "item") ∈ lw_all := lw_g (lw_at lw_m3 167 rfl) rfl
theorem q765 : (Jvm.Cond.lays "java/util/LinkedList$Node" "java/util/LinkedList$Node" "next" "Ljava/util/LinkedList$Node;") ∈ lw_all := lw_g (lw_at lw_m3 168 rfl) rfl
theorem q766 : (Jvm.Cond.soleField "java/util/LinkedList$Node" "next") ∈ lw_all := lw_g (lw_at lw_m3 169 rfl) rfl
theorem q767 : (Jvm.Cond.lays "java/util/LinkedList$Node" "java/util/LinkedList$Node" "prev" "Ljava/util/LinkedList$Node;") ∈ lw_all := lw_g (lw_at lw_m3 170 rfl) rfl
theorem q768 : (Jvm.Cond.soleField "java/util/LinkedList$Node" "prev") ∈ lw_all := lw_g (lw_at lw_m3 171 rfl) rfl
theorem q769 : (Jvm.Cond.superclass "java/util/LinkedList$Node" "java/lang/Object") ∈ lw_all := lw_g (lw_at lw_m3 172 rfl) rfl
theorem q1186 : (Jvm.Cond.selects "java/util/LinkedList$Node" ({ cls := "java/lang/Object", name := "getClass", desc := "()Ljava/lang/Class;" } : Jvm.MethodName) ({ cls := "java/lang/Object", name := "getClass", desc := "()Ljava/lang/Class;" } : Jvm.MethodName)) ∈ lw_all := lw_g (lw_at lw_m5 109 rfl) rfl
theorem q2354 : (Jvm.Cond.castable "java/util/LinkedList$Node" "java/lang/Object") ∈ lw_tbl := lw_at lw_m10 77 rfl
theorem in_J16 : ∀ w ∈ wsJ160, w ∈ lw_all := lw_in wsJ160 [763, 765, 767] (by decide +kernel) (by decide +kernel)
/-! java/lang/Number -/
set_option maxRecDepth 100000
def RJ17 : String := "java/lang/Number"
abbrev cJ17_init : ByteArray := prog_24_method_1_code
def yJ17_init : MethodName := ⟨RJ17, "<init>", "()V"⟩
theorem dJ17_init_0 : decode cJ17_init 0 = .ok (.aload_n 0, 1) := by decide +kernel
theorem dJ17_init_1 : decode cJ17_init 1 = .ok (.invokespecial 1, 3) := by decide +kernel
theorem dJ17_init_4 : decode cJ17_init 4 = .ok (.return_, 1) := by decide +kernel
theorem q141 : (Jvm.Cond.initialized "java/lang/Number") ∈ lw_all := lw_g (lw_at lw_m1 24 rfl) rfl
theorem q1025 : (Jvm.Cond.instanceMethod ({ cls := "java/lang/Number", name := "<init>", desc := "()V" } : Jvm.MethodName)) ∈ lw_all := lw_g (lw_at lw_m4 188 rfl) rfl
theorem q1026 : (Jvm.Cond.code ({ cls := "java/lang/Number", name := "<init>", desc := "()V" } : Jvm.MethodName) prog_24_method_1_code (1 : Nat) (Option.none : Option Jvm.ClassFile.FieldType)) ∈ lw_all := lw_g (lw_at lw_m4 189 rfl) rfl
theorem q1027 : (Jvm.Cond.methodLink "java/lang/Number" (1 : Nat) ({ cls := "java/lang/Object", name := "<init>", desc := "()V" } : Jvm.MethodName)) ∈ lw_all := lw_g (lw_at lw_m4 190 rfl) rfl
/-! java/lang/Integer -/
set_option maxRecDepth 100000
def RJ18 : String := "java/lang/Integer"
def TJ18 : u_T := fun k => match k with
  | _ => ("java/lang/Integer", "value", "I", true)
def tyJ18 : Nat → FieldType := fun k => match k with
  | _ => .int
abbrev wsJ180 : List Cond := u_ws RJ18 TJ18 1
theorem nmJ18 : ∀ a, a < 1 → ∀ b, b < 1 → a ≠ b → (TJ18 a).2.1 ≠ (TJ18 b).2.1 := by decide +kernel
theorem tyJ18_ok : ∀ k, k < 1 → parseFieldDescriptor (TJ18 k).2.2.1 = some (tyJ18 k) := by decide +kernel
abbrev cJ18_bitCount : ByteArray := prog_19_method_49_code
def yJ18_bitCount : MethodName := ⟨RJ18, "bitCount", "(I)I"⟩
def dkwJ18_bitCount_2 : List UInt8 := [26, 16, 63, 126, 172]
abbrev dktJ18_bitCount_2 : List UInt8 := dkwJ18_bitCount_2 ++ []
def dkwJ18_bitCount_1 : List UInt8 := [26, 26, 7, 124, 96, 19, 1, 11, 126, 59, 26, 26, 16, 8, 124, 96, 59, 26, 26, 16, 16, 124, 96, 59]
abbrev dktJ18_bitCount_1 : List UInt8 := dkwJ18_bitCount_1 ++ dktJ18_bitCount_2
def dkwJ18_bitCount_0 : List UInt8 := [26, 26, 4, 124, 19, 1, 9, 126, 100, 59, 26, 19, 1, 10, 126, 26, 5, 124, 19, 1, 10, 126, 96, 59]
abbrev dktJ18_bitCount_0 : List UInt8 := dkwJ18_bitCount_0 ++ dktJ18_bitCount_1
theorem dksJ18_bitCount_0 : cJ18_bitCount.data.toList.drop 0 = dktJ18_bitCount_0 := by decide +kernel
theorem dksJ18_bitCount_1 : cJ18_bitCount.data.toList.drop 24 = dktJ18_bitCount_1 := dk_seg dksJ18_bitCount_0 24 rfl rfl
theorem dksJ18_bitCount_2 : cJ18_bitCount.data.toList.drop 48 = dktJ18_bitCount_2 := dk_seg dksJ18_bitCount_1 24 rfl rfl
theorem dJ18_bitCount_0 : decode cJ18_bitCount 0 = .ok (.iload_n 0, 1) := dk_26 (dk_at dksJ18_bitCount_0 0 rfl rfl)
theorem dJ18_bitCount_1 : decode cJ18_bitCount 1 = .ok (.iload_n 0, 1) := dk_26 (dk_at dksJ18_bitCount_0 1 rfl rfl)
theorem dJ18_bitCount_2 : decode cJ18_bitCount 2 = .ok (.iconst 1, 1) := dk_4 (dk_at dksJ18_bitCount_0 2 rfl rfl)
theorem dJ18_bitCount_3 : decode cJ18_bitCount 3 = .ok (.iushr, 1) := dk_124 (dk_at dksJ18_bitCount_0 3 rfl rfl)
theorem dJ18_bitCount_4 : decode cJ18_bitCount 4 = .ok (.ldc_w 265, 3) := dk_19 1 9 (dk_at dksJ18_bitCount_0 4 rfl rfl)
theorem dJ18_bitCount_7 : decode cJ18_bitCount 7 = .ok (.iand, 1) := dk_126 (dk_at dksJ18_bitCount_0 7 rfl rfl)
theorem dJ18_bitCount_8 : decode cJ18_bitCount 8 = .ok (.isub, 1) := dk_100 (dk_at dksJ18_bitCount_0 8 rfl rfl)
theorem dJ18_bitCount_9 : decode cJ18_bitCount 9 = .ok (.istore_n 0, 1) := dk_59 (dk_at dksJ18_bitCount_0 9 rfl rfl)
theorem dJ18_bitCount_10 : decode cJ18_bitCount 10 = .ok (.iload_n 0, 1) := dk_26 (dk_at dksJ18_bitCount_0 10 rfl rfl)
theorem dJ18_bitCount_11 : decode cJ18_bitCount 11 = .ok (.ldc_w 266, 3) := dk_19 1 10 (dk_at dksJ18_bitCount_0 11 rfl rfl)
theorem dJ18_bitCount_14 : decode cJ18_bitCount 14 = .ok (.iand, 1) := dk_126 (dk_at dksJ18_bitCount_0 14 rfl rfl)
theorem dJ18_bitCount_15 : decode cJ18_bitCount 15 = .ok (.iload_n 0, 1) := dk_26 (dk_at dksJ18_bitCount_0 15 rfl rfl)
theorem dJ18_bitCount_16 : decode cJ18_bitCount 16 = .ok (.iconst 2, 1) := dk_5 (dk_at dksJ18_bitCount_0 16 rfl rfl)
theorem dJ18_bitCount_17 : decode cJ18_bitCount 17 = .ok (.iushr, 1) := dk_124 (dk_at dksJ18_bitCount_0 17 rfl rfl)
theorem dJ18_bitCount_18 : decode cJ18_bitCount 18 = .ok (.ldc_w 266, 3) := dk_19 1 10 (dk_at dksJ18_bitCount_0 18 rfl rfl)
theorem dJ18_bitCount_21 : decode cJ18_bitCount 21 = .ok (.iand, 1) := dk_126 (dk_at dksJ18_bitCount_0 21 rfl rfl)
theorem dJ18_bitCount_22 : decode cJ18_bitCount 22 = .ok (.iadd, 1) := dk_96 (dk_at dksJ18_bitCount_0 22 rfl rfl)
theorem dJ18_bitCount_23 : decode cJ18_bitCount 23 = .ok (.istore_n 0, 1) := dk_59 (dk_at dksJ18_bitCount_0 23 rfl rfl)
theorem dJ18_bitCount_24 : decode cJ18_bitCount 24 = .ok (.iload_n 0, 1) := dk_26 (dk_at dksJ18_bitCount_1 0 rfl rfl)
theorem dJ18_bitCount_25 : decode cJ18_bitCount 25 = .ok (.iload_n 0, 1) := dk_26 (dk_at dksJ18_bitCount_1 1 rfl rfl)
theorem dJ18_bitCount_26 : decode cJ18_bitCount 26 = .ok (.iconst 4, 1) := dk_7 (dk_at dksJ18_bitCount_1 2 rfl rfl)
theorem dJ18_bitCount_27 : decode cJ18_bitCount 27 = .ok (.iushr, 1) := dk_124 (dk_at dksJ18_bitCount_1 3 rfl rfl)
theorem dJ18_bitCount_28 : decode cJ18_bitCount 28 = .ok (.iadd, 1) := dk_96 (dk_at dksJ18_bitCount_1 4 rfl rfl)
theorem dJ18_bitCount_29 : decode cJ18_bitCount 29 = .ok (.ldc_w 267, 3) := dk_19 1 11 (dk_at dksJ18_bitCount_1 5 rfl rfl)
theorem dJ18_bitCount_32 : decode cJ18_bitCount 32 = .ok (.iand, 1) := dk_126 (dk_at dksJ18_bitCount_1 8 rfl rfl)
theorem dJ18_bitCount_33 : decode cJ18_bitCount 33 = .ok (.istore_n 0, 1) := dk_59 (dk_at dksJ18_bitCount_1 9 rfl rfl)
theorem dJ18_bitCount_34 : decode cJ18_bitCount 34 = .ok (.iload_n 0, 1) := dk_26 (dk_at dksJ18_bitCount_1 10 rfl rfl)
theorem dJ18_bitCount_35 : decode cJ18_bitCount 35 = .ok (.iload_n 0, 1) := dk_26 (dk_at dksJ18_bitCount_1 11 rfl rfl)
theorem dJ18_bitCount_36 : decode cJ18_bitCount 36 = .ok (.bipush 8, 2) := dk_16 8 (dk_at dksJ18_bitCount_1 12 rfl rfl)
theorem dJ18_bitCount_38 : decode cJ18_bitCount 38 = .ok (.iushr, 1) := dk_124 (dk_at dksJ18_bitCount_1 14 rfl rfl)
theorem dJ18_bitCount_39 : decode cJ18_bitCount 39 = .ok (.iadd, 1) := dk_96 (dk_at dksJ18_bitCount_1 15 rfl rfl)
theorem dJ18_bitCount_40 : decode cJ18_bitCount 40 = .ok (.istore_n 0, 1) := dk_59 (dk_at dksJ18_bitCount_1 16 rfl rfl)
theorem dJ18_bitCount_41 : decode cJ18_bitCount 41 = .ok (.iload_n 0, 1) := dk_26 (dk_at dksJ18_bitCount_1 17 rfl rfl)
theorem dJ18_bitCount_42 : decode cJ18_bitCount 42 = .ok (.iload_n 0, 1) := dk_26 (dk_at dksJ18_bitCount_1 18 rfl rfl)
theorem dJ18_bitCount_43 : decode cJ18_bitCount 43 = .ok (.bipush 16, 2) := dk_16 16 (dk_at dksJ18_bitCount_1 19 rfl rfl)
theorem dJ18_bitCount_45 : decode cJ18_bitCount 45 = .ok (.iushr, 1) := dk_124 (dk_at dksJ18_bitCount_1 21 rfl rfl)
theorem dJ18_bitCount_46 : decode cJ18_bitCount 46 = .ok (.iadd, 1) := dk_96 (dk_at dksJ18_bitCount_1 22 rfl rfl)
theorem dJ18_bitCount_47 : decode cJ18_bitCount 47 = .ok (.istore_n 0, 1) := dk_59 (dk_at dksJ18_bitCount_1 23 rfl rfl)
theorem dJ18_bitCount_48 : decode cJ18_bitCount 48 = .ok (.iload_n 0, 1) := dk_26 (dk_at dksJ18_bitCount_2 0 rfl rfl)
theorem dJ18_bitCount_49 : decode cJ18_bitCount 49 = .ok (.bipush 63, 2) := dk_16 63 (dk_at dksJ18_bitCount_2 1 rfl rfl)
theorem dJ18_bitCount_51 : decode cJ18_bitCount 51 = .ok (.iand, 1) := dk_126 (dk_at dksJ18_bitCount_2 3 rfl rfl)
theorem dJ18_bitCount_52 : decode cJ18_bitCount 52 = .ok (.ireturn, 1) := dk_172 (dk_at dksJ18_bitCount_2 4 rfl rfl)
abbrev cJ18_numberOfTrailingZeros : ByteArray := prog_19_method_48_code
def yJ18_numberOfTrailingZeros : MethodName := ⟨RJ18, "numberOfTrailingZeros", "(I)I"⟩
def dkwJ18_numberOfTrailingZeros_3 : List UInt8 := [5, 124, 59, 27, 26, 4, 124, 96, 172]
abbrev dktJ18_numberOfTrailingZeros_3 : List UInt8 := dkwJ18_numberOfTrailingZeros_3 ++ []
def dkwJ18_numberOfTrailingZeros_2 : List UInt8 := [124, 59, 26, 16, 16, 164, 0, 10, 132, 1, 4, 26, 7, 124, 59, 26, 7, 164, 0, 10, 132, 1, 2, 26]
abbrev dktJ18_numberOfTrailingZeros_2 : List UInt8 := dkwJ18_numberOfTrailingZeros_2 ++ dktJ18_numberOfTrailingZeros_3
def dkwJ18_numberOfTrailingZeros_1 : List UInt8 := [164, 0, 11, 132, 1, 16, 26, 16, 16, 124, 59, 26, 17, 1, 0, 164, 0, 11, 132, 1, 8, 26, 16, 8]
abbrev dktJ18_numberOfTrailingZeros_1 : List UInt8 := dkwJ18_numberOfTrailingZeros_1 ++ dktJ18_numberOfTrailingZeros_2
def dkwJ18_numberOfTrailingZeros_0 : List UInt8 := [26, 2, 130, 26, 4, 100, 126, 59, 26, 157, 0, 8, 26, 16, 32, 126, 172, 4, 60, 26, 19, 1, 8]
abbrev dktJ18_numberOfTrailingZeros_0 : List UInt8 := dkwJ18_numberOfTrailingZeros_0 ++ dktJ18_numberOfTrailingZeros_1
theorem dksJ18_numberOfTrailingZeros_0 : cJ18_numberOfTrailingZeros.data.toList.drop 0 = dktJ18_numberOfTrailingZeros_0 := by decide +kernel
theorem dksJ18_numberOfTrailingZeros_1 : cJ18_numberOfTrailingZeros.data.toList.drop 23 = dktJ18_numberOfTrailingZeros_1 := dk_seg dksJ18_numberOfTrailingZeros_0 23 rfl rfl
theorem dksJ18_numberOfTrailingZeros_2 : cJ18_numberOfTrailingZeros.data.toList.drop 47 = dktJ18_numberOfTrailingZeros_2 := dk_seg dksJ18_numberOfTrailingZeros_1 24 rfl rfl
theorem dksJ18_numberOfTrailingZeros_3 : cJ18_numberOfTrailingZeros.data.toList.drop 71 = dktJ18_numberOfTrailingZeros_3 := dk_seg dksJ18_numberOfTrailingZeros_2 24 rfl rfl
theorem dJ18_numberOfTrailingZeros_0 : decode cJ18_numberOfTrailingZeros 0 = .ok (.iload_n 0, 1) := dk_26 (dk_at dksJ18_numberOfTrailingZeros_0 0 rfl rfl)
theorem dJ18_numberOfTrailingZeros_1 : decode cJ18_numberOfTrailingZeros 1 = .ok (.iconst (-1), 1) := dk_2 (dk_at dksJ18_numberOfTrailingZeros_0 1 rfl rfl)
theorem dJ18_numberOfTrailingZeros_2 : decode cJ18_numberOfTrailingZeros 2 = .ok (.ixor, 1) := dk_130 (dk_at dksJ18_numberOfTrailingZeros_0 2 rfl rfl)
theorem dJ18_numberOfTrailingZeros_3 : decode cJ18_numberOfTrailingZeros 3 = .ok (.iload_n 0, 1) := dk_26 (dk_at dksJ18_numberOfTrailingZeros_0 3 rfl rfl)
theorem dJ18_numberOfTrailingZeros_4 : decode cJ18_numberOfTrailingZeros 4 = .ok (.iconst 1, 1) := dk_4 (dk_at dksJ18_numberOfTrailingZeros_0 4 rfl rfl)
theorem dJ18_numberOfTrailingZeros_5 : decode cJ18_numberOfTrailingZeros 5 = .ok (.isub, 1) := dk_100 (dk_at dksJ18_numberOfTrailingZeros_0 5 rfl rfl)
theorem dJ18_numberOfTrailingZeros_6 : decode cJ18_numberOfTrailingZeros 6 = .ok (.iand, 1) := dk_126 (dk_at dksJ18_numberOfTrailingZeros_0 6 rfl rfl)
theorem dJ18_numberOfTrailingZeros_7 : decode cJ18_numberOfTrailingZeros 7 = .ok (.istore_n 0, 1) := dk_59 (dk_at dksJ18_numberOfTrailingZeros_0 7 rfl rfl)
theorem dJ18_numberOfTrailingZeros_8 : decode cJ18_numberOfTrailingZeros 8 = .ok (.iload_n 0, 1) := dk_26 (dk_at dksJ18_numberOfTrailingZeros_0 8 rfl rfl)
theorem dJ18_numberOfTrailingZeros_9 : decode cJ18_numberOfTrailingZeros 9 = .ok (.ifCond .gt 8, 3) := dk_157 0 8 (dk_at dksJ18_numberOfTrailingZeros_0 9 rfl rfl)
theorem dJ18_numberOfTrailingZeros_12 : decode cJ18_numberOfTrailingZeros 12 = .ok (.iload_n 0, 1) := dk_26 (dk_at dksJ18_numberOfTrailingZeros_0 12 rfl rfl)
theorem dJ18_numberOfTrailingZeros_13 : decode cJ18_numberOfTrailingZeros 13 = .ok (.bipush 32, 2) := dk_16 32 (dk_at dksJ18_numberOfTrailingZeros_0 13 rfl rfl)
theorem dJ18_numberOfTrailingZeros_15 : decode cJ18_numberOfTrailingZeros 15 = .ok (.iand, 1) := dk_126 (dk_at dksJ18_numberOfTrailingZeros_0 15 rfl rfl)
theorem dJ18_numberOfTrailingZeros_16 : decode cJ18_numberOfTrailingZeros 16 = .ok (.ireturn, 1) := dk_172 (dk_at dksJ18_numberOfTrailingZeros_0 16 rfl rfl)
theorem dJ18_numberOfTrailingZeros_17 : decode cJ18_numberOfTrailingZeros 17 = .ok (.iconst 1, 1) := dk_4 (dk_at dksJ18_numberOfTrailingZeros_0 17 rfl rfl)
theorem dJ18_numberOfTrailingZeros_18 : decode cJ18_numberOfTrailingZeros 18 = .ok (.istore_n 1, 1) := dk_60 (dk_at dksJ18_numberOfTrailingZeros_0 18 rfl rfl)
theorem dJ18_numberOfTrailingZeros_19 : decode cJ18_numberOfTrailingZeros 19 = .ok (.iload_n 0, 1) := dk_26 (dk_at dksJ18_numberOfTrailingZeros_0 19 rfl rfl)
theorem dJ18_numberOfTrailingZeros_20 : decode cJ18_numberOfTrailingZeros 20 = .ok (.ldc_w 264, 3) := dk_19 1 8 (dk_at dksJ18_numberOfTrailingZeros_0 20 rfl rfl)
theorem dJ18_numberOfTrailingZeros_23 : decode cJ18_numberOfTrailingZeros 23 = .ok (.if_icmp .le 11, 3) := dk_164 0 11 (dk_at dksJ18_numberOfTrailingZeros_1 0 rfl rfl)
theorem dJ18_numberOfTrailingZeros_26 : decode cJ18_numberOfTrailingZeros 26 = .ok (.iinc 1 16, 3) := dk_132 1 16 (dk_at dksJ18_numberOfTrailingZeros_1 3 rfl rfl)
theorem dJ18_numberOfTrailingZeros_29 : decode cJ18_numberOfTrailingZeros 29 = .ok (.iload_n 0, 1) := dk_26 (dk_at dksJ18_numberOfTrailingZeros_1 6 rfl rfl)
theorem dJ18_numberOfTrailingZeros_30 : decode cJ18_numberOfTrailingZeros 30 = .ok (.bipush 16, 2) := dk_16 16 (dk_at dksJ18_numberOfTrailingZeros_1 7 rfl rfl)
theorem dJ18_numberOfTrailingZeros_32 : decode cJ18_numberOfTrailingZeros 32 = .ok (.iushr, 1) := dk_124 (dk_at dksJ18_numberOfTrailingZeros_1 9 rfl rfl)
theorem dJ18_numberOfTrailingZeros_33 : decode cJ18_numberOfTrailingZeros 33 = .ok (.istore_n 0, 1) := dk_59 (dk_at dksJ18_numberOfTrailingZeros_1 10 rfl rfl)
theorem dJ18_numberOfTrailingZeros_34 : decode cJ18_numberOfTrailingZeros 34 = .ok (.iload_n 0, 1) := dk_26 (dk_at dksJ18_numberOfTrailingZeros_1 11 rfl rfl)
theorem dJ18_numberOfTrailingZeros_35 : decode cJ18_numberOfTrailingZeros 35 = .ok (.sipush 256, 3) := dk_17 1 0 (dk_at dksJ18_numberOfTrailingZeros_1 12 rfl rfl)
theorem dJ18_numberOfTrailingZeros_38 : decode cJ18_numberOfTrailingZeros 38 = .ok (.if_icmp .le 11, 3) := dk_164 0 11 (dk_at dksJ18_numberOfTrailingZeros_1 15 rfl rfl)
theorem dJ18_numberOfTrailingZeros_41 : decode cJ18_numberOfTrailingZeros 41 = .ok (.iinc 1 8, 3) := dk_132 1 8 (dk_at dksJ18_numberOfTrailingZeros_1 18 rfl rfl)
theorem dJ18_numberOfTrailingZeros_44 : decode cJ18_numberOfTrailingZeros 44 = .ok (.iload_n 0, 1) := dk_26 (dk_at dksJ18_numberOfTrailingZeros_1 21 rfl rfl)
theorem dJ18_numberOfTrailingZeros_45 : decode cJ18_numberOfTrailingZeros 45 = .ok (.bipush 8, 2) := dk_16 8 (dk_at dksJ18_numberOfTrailingZeros_1 22 rfl rfl)
theorem dJ18_numberOfTrailingZeros_47 : decode cJ18_numberOfTrailingZeros 47 = .ok (.iushr, 1) := dk_124 (dk_at dksJ18_numberOfTrailingZeros_2 0 rfl rfl)
theorem dJ18_numberOfTrailingZeros_48 : decode cJ18_numberOfTrailingZeros 48 = .ok (.istore_n 0, 1) := dk_59 (dk_at dksJ18_numberOfTrailingZeros_2 1 rfl rfl)
theorem dJ18_numberOfTrailingZeros_49 : decode cJ18_numberOfTrailingZeros 49 = .ok (.iload_n 0, 1) := dk_26 (dk_at dksJ18_numberOfTrailingZeros_2 2 rfl rfl)
theorem dJ18_numberOfTrailingZeros_50 : decode cJ18_numberOfTrailingZeros 50 = .ok (.bipush 16, 2) := dk_16 16 (dk_at dksJ18_numberOfTrailingZeros_2 3 rfl rfl)
theorem dJ18_numberOfTrailingZeros_52 : decode cJ18_numberOfTrailingZeros 52 = .ok (.if_icmp .le 10, 3) := dk_164 0 10 (dk_at dksJ18_numberOfTrailingZeros_2 5 rfl rfl)
theorem dJ18_numberOfTrailingZeros_55 : decode cJ18_numberOfTrailingZeros 55 = .ok (.iinc 1 4, 3) := dk_132 1 4 (dk_at dksJ18_numberOfTrailingZeros_2 8 rfl rfl)
theorem dJ18_numberOfTrailingZeros_58 : decode cJ18_numberOfTrailingZeros 58 = .ok (.iload_n 0, 1) := dk_26 (dk_at dksJ18_numberOfTrailingZeros_2 11 rfl rfl)
theorem dJ18_numberOfTrailingZeros_59 : decode cJ18_numberOfTrailingZeros 59 = .ok (.iconst 4, 1) := dk_7 (dk_at dksJ18_numberOfTrailingZeros_2 12 rfl rfl)
theorem dJ18_numberOfTrailingZeros_60 : decode cJ18_numberOfTrailingZeros 60 = .ok (.iushr, 1) := dk_124 (dk_at dksJ18_numberOfTrailingZeros_2 13 rfl rfl)
theorem dJ18_numberOfTrailingZeros_61 : decode cJ18_numberOfTrailingZeros 61 = .ok (.istore_n 0, 1) := dk_59 (dk_at dksJ18_numberOfTrailingZeros_2 14 rfl rfl)
theorem dJ18_numberOfTrailingZeros_62 : decode cJ18_numberOfTrailingZeros 62 = .ok (.iload_n 0, 1) := dk_26 (dk_at dksJ18_numberOfTrailingZeros_2 15 rfl rfl)
theorem dJ18_numberOfTrailingZeros_63 : decode cJ18_numberOfTrailingZeros 63 = .ok (.iconst 4, 1) := dk_7 (dk_at dksJ18_numberOfTrailingZeros_2 16 rfl rfl)
theorem dJ18_numberOfTrailingZeros_64 : decode cJ18_numberOfTrailingZeros 64 = .ok (.if_icmp .le 10, 3) := dk_164 0 10 (dk_at dksJ18_numberOfTrailingZeros_2 17 rfl rfl)
theorem dJ18_numberOfTrailingZeros_67 : decode cJ18_numberOfTrailingZeros 67 = .ok (.iinc 1 2, 3) := dk_132 1 2 (dk_at dksJ18_numberOfTrailingZeros_2 20 rfl rfl)
theorem dJ18_numberOfTrailingZeros_70 : decode cJ18_numberOfTrailingZeros 70 = .ok (.iload_n 0, 1) := dk_26 (dk_at dksJ18_numberOfTrailingZeros_2 23 rfl rfl)
theorem dJ18_numberOfTrailingZeros_71 : decode cJ18_numberOfTrailingZeros 71 = .ok (.iconst 2, 1) := dk_5 (dk_at dksJ18_numberOfTrailingZeros_3 0 rfl rfl)
theorem dJ18_numberOfTrailingZeros_72 : decode cJ18_numberOfTrailingZeros 72 = .ok (.iushr, 1) := dk_124 (dk_at dksJ18_numberOfTrailingZeros_3 1 rfl rfl)
theorem dJ18_numberOfTrailingZeros_73 : decode cJ18_numberOfTrailingZeros 73 = .ok (.istore_n 0, 1) := dk_59 (dk_at dksJ18_numberOfTrailingZeros_3 2 rfl rfl)
theorem dJ18_numberOfTrailingZeros_74 : decode cJ18_numberOfTrailingZeros 74 = .ok (.iload_n 1, 1) := dk_27 (dk_at dksJ18_numberOfTrailingZeros_3 3 rfl rfl)
theorem dJ18_numberOfTrailingZeros_75 : decode cJ18_numberOfTrailingZeros 75 = .ok (.iload_n 0, 1) := dk_26 (dk_at dksJ18_numberOfTrailingZeros_3 4 rfl rfl)
theorem dJ18_numberOfTrailingZeros_76 : decode cJ18_numberOfTrailingZeros 76 = .ok (.iconst 1, 1) := dk_4 (dk_at dksJ18_numberOfTrailingZeros_3 5 rfl rfl)
theorem dJ18_numberOfTrailingZeros_77 : decode cJ18_numberOfTrailingZeros 77 = .ok (.iushr, 1) := dk_124 (dk_at dksJ18_numberOfTrailingZeros_3 6 rfl rfl)
theorem dJ18_numberOfTrailingZeros_78 : decode cJ18_numberOfTrailingZeros 78 = .ok (.iadd, 1) := dk_96 (dk_at dksJ18_numberOfTrailingZeros_3 7 rfl rfl)
theorem dJ18_numberOfTrailingZeros_79 : decode cJ18_numberOfTrailingZeros 79 = .ok (.ireturn, 1) := dk_172 (dk_at dksJ18_numberOfTrailingZeros_3 8 rfl rfl)
abbrev cJ18_valueOf : ByteArray := prog_19_method_22_code
def yJ18_valueOf : MethodName := ⟨RJ18, "valueOf", "(I)Ljava/lang/Integer;"⟩
def dkwJ18_valueOf_1 : List UInt8 := [187, 0, 1, 89, 26, 183, 0, 199, 176]
abbrev dktJ18_valueOf_1 : List UInt8 := dkwJ18_valueOf_1 ++ []
def dkwJ18_valueOf_0 : List UInt8 := [26, 16, 128, 161, 0, 20, 26, 178, 0, 191, 163, 0, 13, 178, 0, 195, 26, 17, 0, 128, 96, 50, 176]
abbrev dktJ18_valueOf_0 : List UInt8 := dkwJ18_valueOf_0 ++ dktJ18_valueOf_1
theorem dksJ18_valueOf_0 : cJ18_valueOf.data.toList.drop 0 = dktJ18_valueOf_0 := by decide +kernel
theorem dksJ18_valueOf_1 : cJ18_valueOf.data.toList.drop 23 = dktJ18_valueOf_1 := dk_seg dksJ18_valueOf_0 23 rfl rfl
theorem dJ18_valueOf_0 : decode cJ18_valueOf 0 = .ok (.iload_n 0, 1) := dk_26 (dk_at dksJ18_valueOf_0 0 rfl rfl)
theorem dJ18_valueOf_1 : decode cJ18_valueOf 1 = .ok (.bipush (-128), 2) := dk_16 128 (dk_at dksJ18_valueOf_0 1 rfl rfl)
theorem dJ18_valueOf_3 : decode cJ18_valueOf 3 = .ok (.if_icmp .lt 20, 3) := dk_161 0 20 (dk_at dksJ18_valueOf_0 3 rfl rfl)
theorem dJ18_valueOf_6 : decode cJ18_valueOf 6 = .ok (.iload_n 0, 1) := dk_26 (dk_at dksJ18_valueOf_0 6 rfl rfl)
theorem dJ18_valueOf_7 : decode cJ18_valueOf 7 = .ok (.getstatic 191, 3) := dk_178 0 191 (dk_at dksJ18_valueOf_0 7 rfl rfl)
theorem dJ18_valueOf_10 : decode cJ18_valueOf 10 = .ok (.if_icmp .gt 13, 3) := dk_163 0 13 (dk_at dksJ18_valueOf_0 10 rfl rfl)
theorem dJ18_valueOf_13 : decode cJ18_valueOf 13 = .ok (.getstatic 195, 3) := dk_178 0 195 (dk_at dksJ18_valueOf_0 13 rfl rfl)
theorem dJ18_valueOf_16 : decode cJ18_valueOf 16 = .ok (.iload_n 0, 1) := dk_26 (dk_at dksJ18_valueOf_0 16 rfl rfl)
theorem dJ18_valueOf_17 : decode cJ18_valueOf 17 = .ok (.sipush 128, 3) := dk_17 0 128 (dk_at dksJ18_valueOf_0 17 rfl rfl)
theorem dJ18_valueOf_20 : decode cJ18_valueOf 20 = .ok (.iadd, 1) := dk_96 (dk_at dksJ18_valueOf_0 20 rfl rfl)
theorem dJ18_valueOf_21 : decode cJ18_valueOf 21 = .ok (.aaload, 1) := dk_50 (dk_at dksJ18_valueOf_0 21 rfl rfl)
theorem dJ18_valueOf_22 : decode cJ18_valueOf 22 = .ok (.areturn, 1) := dk_176 (dk_at dksJ18_valueOf_0 22 rfl rfl)
theorem dJ18_valueOf_23 : decode cJ18_valueOf 23 = .ok (.new 1, 3) := dk_187 0 1 (dk_at dksJ18_valueOf_1 0 rfl rfl)
theorem dJ18_valueOf_26 : decode cJ18_valueOf 26 = .ok (.dup, 1) := dk_89 (dk_at dksJ18_valueOf_1 3 rfl rfl)
theorem dJ18_valueOf_27 : decode cJ18_valueOf 27 = .ok (.iload_n 0, 1) := dk_26 (dk_at dksJ18_valueOf_1 4 rfl rfl)
theorem dJ18_valueOf_28 : decode cJ18_valueOf 28 = .ok (.invokespecial 199, 3) := dk_183 0 199 (dk_at dksJ18_valueOf_1 5 rfl rfl)
theorem dJ18_valueOf_31 : decode cJ18_valueOf 31 = .ok (.areturn, 1) := dk_176 (dk_at dksJ18_valueOf_1 8 rfl rfl)
abbrev cJ18_init : ByteArray := prog_19_method_23_code
def yJ18_init : MethodName := ⟨RJ18, "<init>", "(I)V"⟩
def dkwJ18_init_0 : List UInt8 := [42, 183, 0, 202, 42, 27, 181, 0, 205, 177]
abbrev dktJ18_init_0 : List UInt8 := dkwJ18_init_0 ++ []
theorem dksJ18_init_0 : cJ18_init.data.toList.drop 0 = dktJ18_init_0 := by decide +kernel
theorem dJ18_init_0 : decode cJ18_init 0 = .ok (.aload_n 0, 1) := dk_42 (dk_at dksJ18_init_0 0 rfl rfl)
theorem dJ18_init_1 : decode cJ18_init 1 = .ok (.invokespecial 202, 3) := dk_183 0 202 (dk_at dksJ18_init_0 1 rfl rfl)
theorem dJ18_init_4 : decode cJ18_init 4 = .ok (.aload_n 0, 1) := dk_42 (dk_at dksJ18_init_0 4 rfl rfl)
theorem dJ18_init_5 : decode cJ18_init 5 = .ok (.iload_n 1, 1) := dk_27 (dk_at dksJ18_init_0 5 rfl rfl)
theorem dJ18_init_6 : decode cJ18_init 6 = .ok (.putfield 205, 3) := dk_181 0 205 (dk_at dksJ18_init_0 6 rfl rfl)
theorem dJ18_init_9 : decode cJ18_init 9 = .ok (.return_, 1) := dk_177 (dk_at dksJ18_init_0 9 rfl rfl)
abbrev cJ18_intValue : ByteArray := prog_19_method_27_code
def yJ18_intValue : MethodName := ⟨RJ18, "intValue", "()I"⟩
theorem dJ18_intValue_0 : decode cJ18_intValue 0 = .ok (.aload_n 0, 1) := by decide +kernel
theorem dJ18_intValue_1 : decode cJ18_intValue 1 = .ok (.getfield 205, 3) := by decide +kernel
theorem dJ18_intValue_4 : decode cJ18_intValue 4 = .ok (.ireturn, 1) := by decide +kernel
theorem q142 : (Jvm.Cond.initialized "java/lang/Integer") ∈ lw_all := lw_g (lw_at lw_m1 25 rfl) rfl
theorem q824 : (Jvm.Cond.static ({ cls := "java/lang/Integer", name := "bitCount", desc := "(I)I" } : Jvm.MethodName)) ∈ lw_all := lw_g (lw_at lw_m3 227 rfl) rfl
theorem q825 : (Jvm.Cond.code ({ cls := "java/lang/Integer", name := "bitCount", desc := "(I)I" } : Jvm.MethodName) prog_19_method_49_code (1 : Nat) (Option.some Jvm.ClassFile.FieldType.int)) ∈ lw_all := lw_g (lw_at lw_m3 228 rfl) rfl
theorem q826 : (Jvm.Cond.constant "java/lang/Integer" (265 : Nat) (1431655765 : Int32)) ∈ lw_all := lw_g (lw_at lw_m3 229 rfl) rfl
theorem q827 : (Jvm.Cond.constant "java/lang/Integer" (266 : Nat) (858993459 : Int32)) ∈ lw_all := lw_g (lw_at lw_m3 230 rfl) rfl
theorem q828 : (Jvm.Cond.constant "java/lang/Integer" (267 : Nat) (252645135 : Int32)) ∈ lw_all := lw_g (lw_at lw_m3 231 rfl) rfl
theorem q837 : (Jvm.Cond.static ({ cls := "java/lang/Integer", name := "numberOfTrailingZeros", desc := "(I)I" } : Jvm.MethodName)) ∈ lw_all := lw_g (lw_at lw_m4 0 rfl) rfl
theorem q838 : (Jvm.Cond.code ({ cls := "java/lang/Integer", name := "numberOfTrailingZeros", desc := "(I)I" } : Jvm.MethodName) prog_19_method_48_code (2 : Nat) (Option.some Jvm.ClassFile.FieldType.int)) ∈ lw_all := lw_g (lw_at lw_m4 1 rfl) rfl
theorem q839 : (Jvm.Cond.constant "java/lang/Integer" (264 : Nat) (65536 : Int32)) ∈ lw_all := lw_g (lw_at lw_m4 2 rfl) rfl
theorem q1013 : (Jvm.Cond.static ({ cls := "java/lang/Integer", name := "valueOf", desc := "(I)Ljava/lang/Integer;" } : Jvm.MethodName)) ∈ lw_all := lw_g (lw_at lw_m4 176 rfl) rfl
theorem q1014 : (Jvm.Cond.code ({ cls := "java/lang/Integer", name := "valueOf", desc := "(I)Ljava/lang/Integer;" } : Jvm.MethodName) prog_19_method_22_code (1 : Nat) (Option.some (Jvm.ClassFile.FieldType.object "java/lang/Integer"))) ∈ lw_all := lw_g (lw_at lw_m4 177 rfl) rfl
theorem q1015 : (Jvm.Cond.fieldLink "java/lang/Integer" (191 : Nat) "java/lang/Integer$IntegerCache" "high" "I") ∈ lw_all := lw_g (lw_at lw_m4 178 rfl) rfl
theorem q1017 : (Jvm.Cond.fieldLink "java/lang/Integer" (195 : Nat) "java/lang/Integer$IntegerCache" "cache" "[Ljava/lang/Integer;") ∈ lw_all := lw_g (lw_at lw_m4 180 rfl) rfl
theorem q1019 : (Jvm.Cond.classLink "java/lang/Integer" (1 : Nat) "java/lang/Integer") ∈ lw_all := lw_g (lw_at lw_m4 182 rfl) rfl
theorem q1020 : (Jvm.Cond.instantiable "java/lang/Integer" (1 : Nat)) ∈ lw_all := lw_g (lw_at lw_m4 183 rfl) rfl
theorem q1021 : (Jvm.Cond.methodLink "java/lang/Integer" (199 : Nat) ({ cls := "java/lang/Integer", name := "<init>", desc := "(I)V" } : Jvm.MethodName)) ∈ lw_all := lw_g (lw_at lw_m4 184 rfl) rfl
theorem q1022 : (Jvm.Cond.instanceMethod ({ cls := "java/lang/Integer", name := "<init>", desc := "(I)V" } : Jvm.MethodName)) ∈ lw_all := lw_g (lw_at lw_m4 185 rfl) rfl
theorem q1023 : (Jvm.Cond.code ({ cls := "java/lang/Integer", name := "<init>", desc := "(I)V" } : Jvm.MethodName) prog_19_method_23_code (2 : Nat) (Option.none : Option Jvm.ClassFile.FieldType)) ∈ lw_all := lw_g (lw_at lw_m4 186 rfl) rfl
theorem q1024 : (Jvm.Cond.methodLink "java/lang/Integer" (202 : Nat) ({ cls := "java/lang/Number", name := "<init>", desc := "()V" } : Jvm.MethodName)) ∈ lw_all := lw_g (lw_at lw_m4 187 rfl) rfl
theorem q1028 : (Jvm.Cond.fieldLink "java/lang/Integer" (205 : Nat) "java/lang/Integer" "value" "I") ∈ lw_all := lw_g (lw_at lw_m4 191 rfl) rfl
theorem q1029 : (Jvm.Cond.laysFinal "java/lang/Integer" "java/lang/Integer" "value" "I") ∈ lw_all := lw_g (lw_at lw_m4 192 rfl) rfl
theorem q1030 : (Jvm.Cond.soleField "java/lang/Integer" "value") ∈ lw_all := lw_g (lw_at lw_m4 193 rfl) rfl
theorem q1031 : (Jvm.Cond.superclass "java/lang/Integer" "java/lang/Number") ∈ lw_all := lw_g (lw_at lw_m4 194 rfl) rfl
theorem q1177 : (Jvm.Cond.selects "java/lang/Integer" ({ cls := "java/lang/Object", name := "getClass", desc := "()Ljava/lang/Class;" } : Jvm.MethodName) ({ cls := "java/lang/Object", name := "getClass", desc := "()Ljava/lang/Class;" } : Jvm.MethodName)) ∈ lw_all := lw_g (lw_at lw_m5 100 rfl) rfl
theorem q1397 : (Jvm.Cond.instanceMethod ({ cls := "java/lang/Integer", name := "intValue", desc := "()I" } : Jvm.MethodName)) ∈ lw_all := lw_g (lw_at lw_m6 80 rfl) rfl
theorem q1398 : (Jvm.Cond.selects "java/lang/Integer" ({ cls := "java/lang/Integer", name := "intValue", desc := "()I" } : Jvm.MethodName) ({ cls := "java/lang/Integer", name := "intValue", desc := "()I" } : Jvm.MethodName)) ∈ lw_all := lw_g (lw_at lw_m6 81 rfl) rfl
theorem q1399 : (Jvm.Cond.code ({ cls := "java/lang/Integer", name := "intValue", desc := "()I" } : Jvm.MethodName) prog_19_method_27_code (1 : Nat) (Option.some Jvm.ClassFile.FieldType.int)) ∈ lw_all := lw_g (lw_at lw_m6 82 rfl) rfl
theorem q2355 : (Jvm.Cond.castable "java/lang/Integer" "java/lang/Object") ∈ lw_tbl := lw_at lw_m10 78 rfl
theorem in_J18 : ∀ w ∈ wsJ180, w ∈ lw_all := lw_in wsJ180 [1029] (by decide +kernel) (by decide +kernel)
/-! java/lang/Long -/
set_option maxRecDepth 100000
def RJ19 : String := "java/lang/Long"
abbrev cJ19_numberOfTrailingZeros : ByteArray := prog_22_method_49_code
def yJ19_numberOfTrailingZeros : MethodName := ⟨RJ19, "numberOfTrailingZeros", "(J)I"⟩
def dkwJ19_numberOfTrailingZeros_1 : List UInt8 := [184, 1, 55, 172]
abbrev dktJ19_numberOfTrailingZeros_1 : List UInt8 := dkwJ19_numberOfTrailingZeros_1 ++ []
def dkwJ19_numberOfTrailingZeros_0 : List UInt8 := [30, 136, 61, 28, 154, 0, 17, 16, 32, 30, 16, 32, 125, 136, 184, 1, 55, 96, 167, 0, 7, 28]
abbrev dktJ19_numberOfTrailingZeros_0 : List UInt8 := dkwJ19_numberOfTrailingZeros_0 ++ dktJ19_numberOfTrailingZeros_1
theorem dksJ19_numberOfTrailingZeros_0 : cJ19_numberOfTrailingZeros.data.toList.drop 0 = dktJ19_numberOfTrailingZeros_0 := by decide +kernel
theorem dksJ19_numberOfTrailingZeros_1 : cJ19_numberOfTrailingZeros.data.toList.drop 22 = dktJ19_numberOfTrailingZeros_1 := dk_seg dksJ19_numberOfTrailingZeros_0 22 rfl rfl
theorem dJ19_numberOfTrailingZeros_0 : decode cJ19_numberOfTrailingZeros 0 = .ok (.lload_n 0, 1) := dk_30 (dk_at dksJ19_numberOfTrailingZeros_0 0 rfl rfl)
theorem dJ19_numberOfTrailingZeros_1 : decode cJ19_numberOfTrailingZeros 1 = .ok (.l2i, 1) := dk_136 (dk_at dksJ19_numberOfTrailingZeros_0 1 rfl rfl)
theorem dJ19_numberOfTrailingZeros_2 : decode cJ19_numberOfTrailingZeros 2 = .ok (.istore_n 2, 1) := dk_61 (dk_at dksJ19_numberOfTrailingZeros_0 2 rfl rfl)
theorem dJ19_numberOfTrailingZeros_3 : decode cJ19_numberOfTrailingZeros 3 = .ok (.iload_n 2, 1) := dk_28 (dk_at dksJ19_numberOfTrailingZeros_0 3 rfl rfl)
theorem dJ19_numberOfTrailingZeros_4 : decode cJ19_numberOfTrailingZeros 4 = .ok (.ifCond .ne 17, 3) := dk_154 0 17 (dk_at dksJ19_numberOfTrailingZeros_0 4 rfl rfl)
theorem dJ19_numberOfTrailingZeros_7 : decode cJ19_numberOfTrailingZeros 7 = .ok (.bipush 32, 2) := dk_16 32 (dk_at dksJ19_numberOfTrailingZeros_0 7 rfl rfl)
theorem dJ19_numberOfTrailingZeros_9 : decode cJ19_numberOfTrailingZeros 9 = .ok (.lload_n 0, 1) := dk_30 (dk_at dksJ19_numberOfTrailingZeros_0 9 rfl rfl)
theorem dJ19_numberOfTrailingZeros_10 : decode cJ19_numberOfTrailingZeros 10 = .ok (.bipush 32, 2) := dk_16 32 (dk_at dksJ19_numberOfTrailingZeros_0 10 rfl rfl)
theorem dJ19_numberOfTrailingZeros_12 : decode cJ19_numberOfTrailingZeros 12 = .ok (.lushr, 1) := dk_125 (dk_at dksJ19_numberOfTrailingZeros_0 12 rfl rfl)
theorem dJ19_numberOfTrailingZeros_13 : decode cJ19_numberOfTrailingZeros 13 = .ok (.l2i, 1) := dk_136 (dk_at dksJ19_numberOfTrailingZeros_0 13 rfl rfl)
theorem dJ19_numberOfTrailingZeros_14 : decode cJ19_numberOfTrailingZeros 14 = .ok (.invokestatic 311, 3) := dk_184 1 55 (dk_at dksJ19_numberOfTrailingZeros_0 14 rfl rfl)
theorem dJ19_numberOfTrailingZeros_17 : decode cJ19_numberOfTrailingZeros 17 = .ok (.iadd, 1) := dk_96 (dk_at dksJ19_numberOfTrailingZeros_0 17 rfl rfl)
theorem dJ19_numberOfTrailingZeros_18 : decode cJ19_numberOfTrailingZeros 18 = .ok (.goto 7, 3) := dk_167 0 7 (dk_at dksJ19_numberOfTrailingZeros_0 18 rfl rfl)
theorem dJ19_numberOfTrailingZeros_21 : decode cJ19_numberOfTrailingZeros 21 = .ok (.iload_n 2, 1) := dk_28 (dk_at dksJ19_numberOfTrailingZeros_0 21 rfl rfl)
theorem dJ19_numberOfTrailingZeros_22 : decode cJ19_numberOfTrailingZeros 22 = .ok (.invokestatic 311, 3) := dk_184 1 55 (dk_at dksJ19_numberOfTrailingZeros_1 0 rfl rfl)
theorem dJ19_numberOfTrailingZeros_25 : decode cJ19_numberOfTrailingZeros 25 = .ok (.ireturn, 1) := dk_172 (dk_at dksJ19_numberOfTrailingZeros_1 3 rfl rfl)
theorem q143 : (Jvm.Cond.initialized "java/lang/Long") ∈ lw_all := lw_g (lw_at lw_m1 26 rfl) rfl
theorem q936 : (Jvm.Cond.static ({ cls := "java/lang/Long", name := "numberOfTrailingZeros", desc := "(J)I" } : Jvm.MethodName)) ∈ lw_all := lw_g (lw_at lw_m4 99 rfl) rfl
theorem q937 : (Jvm.Cond.code ({ cls := "java/lang/Long", name := "numberOfTrailingZeros", desc := "(J)I" } : Jvm.MethodName) prog_22_method_49_code (3 : Nat) (Option.some Jvm.ClassFile.FieldType.int)) ∈ lw_all := lw_g (lw_at lw_m4 100 rfl) rfl
theorem q938 : (Jvm.Cond.methodLink "java/lang/Long" (311 : Nat) ({ cls := "java/lang/Integer", name := "numberOfTrailingZeros", desc := "(I)I" } : Jvm.MethodName)) ∈ lw_all := lw_g (lw_at lw_m4 101 rfl) rfl
/-! java/util/AbstractCollection -/
set_option maxRecDepth 100000
def RJ2 : String := "java/util/AbstractCollection"
abbrev cJ2_init : ByteArray := prog_34_method_1_code
def yJ2_init : MethodName := ⟨RJ2, "<init>", "()V"⟩
theorem dJ2_init_0 : decode cJ2_init 0 = .ok (.aload_n 0, 1) := by decide +kernel
theorem dJ2_init_1 : decode cJ2_init 1 = .ok (.invokespecial 1, 3) := by decide +kernel
theorem dJ2_init_4 : decode cJ2_init 4 = .ok (.return_, 1) := by decide +kernel
abbrev cJ2_isEmpty : ByteArray := prog_34_method_4_code
def yJ2_isEmpty : MethodName := ⟨RJ2, "isEmpty", "()Z"⟩
def dkwJ2_isEmpty_0 : List UInt8 := [42, 182, 0, 7, 154, 0, 7, 4, 167, 0, 4, 3, 172]
abbrev dktJ2_isEmpty_0 : List UInt8 := dkwJ2_isEmpty_0 ++ []
theorem dksJ2_isEmpty_0 : cJ2_isEmpty.data.toList.drop 0 = dktJ2_isEmpty_0 := by decide +kernel
theorem dJ2_isEmpty_0 : decode cJ2_isEmpty 0 = .ok (.aload_n 0, 1) := dk_42 (dk_at dksJ2_isEmpty_0 0 rfl rfl)
theorem dJ2_isEmpty_1 : decode cJ2_isEmpty 1 = .ok (.invokevirtual 7, 3) := dk_182 0 7 (dk_at dksJ2_isEmpty_0 1 rfl rfl)
theorem dJ2_isEmpty_4 : decode cJ2_isEmpty 4 = .ok (.ifCond .ne 7, 3) := dk_154 0 7 (dk_at dksJ2_isEmpty_0 4 rfl rfl)
theorem dJ2_isEmpty_7 : decode cJ2_isEmpty 7 = .ok (.iconst 1, 1) := dk_4 (dk_at dksJ2_isEmpty_0 7 rfl rfl)
theorem dJ2_isEmpty_8 : decode cJ2_isEmpty 8 = .ok (.goto 4, 3) := dk_167 0 4 (dk_at dksJ2_isEmpty_0 8 rfl rfl)
theorem dJ2_isEmpty_11 : decode cJ2_isEmpty 11 = .ok (.iconst 0, 1) := dk_3 (dk_at dksJ2_isEmpty_0 11 rfl rfl)
theorem dJ2_isEmpty_12 : decode cJ2_isEmpty 12 = .ok (.ireturn, 1) := dk_172 (dk_at dksJ2_isEmpty_0 12 rfl rfl)
theorem q122 : (Jvm.Cond.initialized "java/util/AbstractCollection") ∈ lw_all := lw_g (lw_at lw_m1 5 rfl) rfl
theorem q237 : (Jvm.Cond.instanceMethod ({ cls := "java/util/AbstractCollection", name := "<init>", desc := "()V" } : Jvm.MethodName)) ∈ lw_all := lw_g (lw_at lw_m1 120 rfl) rfl
theorem q238 : (Jvm.Cond.code ({ cls := "java/util/AbstractCollection", name := "<init>", desc := "()V" } : Jvm.MethodName) prog_34_method_1_code (1 : Nat) (Option.none : Option Jvm.ClassFile.FieldType)) ∈ lw_all := lw_g (lw_at lw_m1 121 rfl) rfl
theorem q239 : (Jvm.Cond.methodLink "java/util/AbstractCollection" (1 : Nat) ({ cls := "java/lang/Object", name := "<init>", desc := "()V" } : Jvm.MethodName)) ∈ lw_all := lw_g (lw_at lw_m1 122 rfl) rfl
theorem q1036 : (Jvm.Cond.declares ({ cls := "java/util/AbstractCollection", name := "isEmpty", desc := "()Z" } : Jvm.MethodName)) ∈ lw_tbl := lw_at lw_m4 199 rfl
theorem q1038 : (Jvm.Cond.instanceMethod ({ cls := "java/util/AbstractCollection", name := "isEmpty", desc := "()Z" } : Jvm.MethodName)) ∈ lw_all := lw_g (lw_at lw_m4 201 rfl) rfl
theorem q1039 : (Jvm.Cond.code ({ cls := "java/util/AbstractCollection", name := "isEmpty", desc := "()Z" } : Jvm.MethodName) prog_34_method_4_code (1 : Nat) (Option.some Jvm.ClassFile.FieldType.boolean)) ∈ lw_all := lw_g (lw_at lw_m4 202 rfl) rfl
theorem q1040 : (Jvm.Cond.methodLink "java/util/AbstractCollection" (7 : Nat) ({ cls := "java/util/AbstractCollection", name := "size", desc := "()I" } : Jvm.MethodName)) ∈ lw_all := lw_g (lw_at lw_m4 203 rfl) rfl
theorem q1041 : (Jvm.Cond.declares ({ cls := "java/util/AbstractCollection", name := "size", desc := "()I" } : Jvm.MethodName)) ∈ lw_tbl := lw_at lw_m4 204 rfl
theorem q1042 : (Jvm.Cond.sameMethod "java/util/AbstractCollection" "java/util/AbstractCollection" "size" "()I") ∈ lw_all := lw_g (lw_at lw_m4 205 rfl) rfl
/-! java/util/Arrays -/
set_option maxRecDepth 100000
def RJ20 : String := "java/util/Arrays"
abbrev cJ20_copyOf : ByteArray := prog_41_method_124_code
def yJ20_copyOf : MethodName := ⟨RJ20, "copyOf", "([JI)[J"⟩
def dkwJ20_copyOf_1 : List UInt8 := [27, 184, 1, 48, 184, 0, 150, 44, 176]
abbrev dktJ20_copyOf_1 : List UInt8 := dkwJ20_copyOf_1 ++ []
def dkwJ20_copyOf_0 : List UInt8 := [27, 42, 190, 160, 0, 11, 42, 182, 1, 63, 192, 1, 64, 176, 27, 188, 11, 77, 42, 3, 44, 3, 42, 190]
abbrev dktJ20_copyOf_0 : List UInt8 := dkwJ20_copyOf_0 ++ dktJ20_copyOf_1
theorem dksJ20_copyOf_0 : cJ20_copyOf.data.toList.drop 0 = dktJ20_copyOf_0 := by decide +kernel
theorem dksJ20_copyOf_1 : cJ20_copyOf.data.toList.drop 24 = dktJ20_copyOf_1 := dk_seg dksJ20_copyOf_0 24 rfl rfl
theorem dJ20_copyOf_0 : decode cJ20_copyOf 0 = .ok (.iload_n 1, 1) := dk_27 (dk_at dksJ20_copyOf_0 0 rfl rfl)
theorem dJ20_copyOf_1 : decode cJ20_copyOf 1 = .ok (.aload_n 0, 1) := dk_42 (dk_at dksJ20_copyOf_0 1 rfl rfl)
theorem dJ20_copyOf_2 : decode cJ20_copyOf 2 = .ok (.arraylength, 1) := dk_190 (dk_at dksJ20_copyOf_0 2 rfl rfl)
theorem dJ20_copyOf_3 : decode cJ20_copyOf 3 = .ok (.if_icmp .ne 11, 3) := dk_160 0 11 (dk_at dksJ20_copyOf_0 3 rfl rfl)
theorem dJ20_copyOf_6 : decode cJ20_copyOf 6 = .ok (.aload_n 0, 1) := dk_42 (dk_at dksJ20_copyOf_0 6 rfl rfl)
theorem dJ20_copyOf_7 : decode cJ20_copyOf 7 = .ok (.invokevirtual 319, 3) := dk_182 1 63 (dk_at dksJ20_copyOf_0 7 rfl rfl)
theorem dJ20_copyOf_10 : decode cJ20_copyOf 10 = .ok (.checkcast 320, 3) := dk_192 1 64 (dk_at dksJ20_copyOf_0 10 rfl rfl)
theorem dJ20_copyOf_13 : decode cJ20_copyOf 13 = .ok (.areturn, 1) := dk_176 (dk_at dksJ20_copyOf_0 13 rfl rfl)
theorem dJ20_copyOf_14 : decode cJ20_copyOf 14 = .ok (.iload_n 1, 1) := dk_27 (dk_at dksJ20_copyOf_0 14 rfl rfl)
theorem dJ20_copyOf_15 : decode cJ20_copyOf 15 = .ok (.newarray .long, 2) := dk_188_11 (dk_at dksJ20_copyOf_0 15 rfl rfl)
theorem dJ20_copyOf_17 : decode cJ20_copyOf 17 = .ok (.astore_n 2, 1) := dk_77 (dk_at dksJ20_copyOf_0 17 rfl rfl)
theorem dJ20_copyOf_18 : decode cJ20_copyOf 18 = .ok (.aload_n 0, 1) := dk_42 (dk_at dksJ20_copyOf_0 18 rfl rfl)
theorem dJ20_copyOf_19 : decode cJ20_copyOf 19 = .ok (.iconst 0, 1) := dk_3 (dk_at dksJ20_copyOf_0 19 rfl rfl)
theorem dJ20_copyOf_20 : decode cJ20_copyOf 20 = .ok (.aload_n 2, 1) := dk_44 (dk_at dksJ20_copyOf_0 20 rfl rfl)
theorem dJ20_copyOf_21 : decode cJ20_copyOf 21 = .ok (.iconst 0, 1) := dk_3 (dk_at dksJ20_copyOf_0 21 rfl rfl)
theorem dJ20_copyOf_22 : decode cJ20_copyOf 22 = .ok (.aload_n 0, 1) := dk_42 (dk_at dksJ20_copyOf_0 22 rfl rfl)
theorem dJ20_copyOf_23 : decode cJ20_copyOf 23 = .ok (.arraylength, 1) := dk_190 (dk_at dksJ20_copyOf_0 23 rfl rfl)
theorem dJ20_copyOf_24 : decode cJ20_copyOf 24 = .ok (.iload_n 1, 1) := dk_27 (dk_at dksJ20_copyOf_1 0 rfl rfl)
theorem dJ20_copyOf_25 : decode cJ20_copyOf 25 = .ok (.invokestatic 304, 3) := dk_184 1 48 (dk_at dksJ20_copyOf_1 1 rfl rfl)
theorem dJ20_copyOf_28 : decode cJ20_copyOf 28 = .ok (.invokestatic 150, 3) := dk_184 0 150 (dk_at dksJ20_copyOf_1 4 rfl rfl)
theorem dJ20_copyOf_31 : decode cJ20_copyOf 31 = .ok (.aload_n 2, 1) := dk_44 (dk_at dksJ20_copyOf_1 7 rfl rfl)
theorem dJ20_copyOf_32 : decode cJ20_copyOf 32 = .ok (.areturn, 1) := dk_176 (dk_at dksJ20_copyOf_1 8 rfl rfl)
abbrev cJ20_copyOf_2 : ByteArray := prog_41_method_121_code
def yJ20_copyOf_2 : MethodName := ⟨RJ20, "copyOf", "([BI)[B"⟩
def dkwJ20_copyOf_2_1 : List UInt8 := [27, 184, 1, 48, 184, 0, 150, 44, 176]
abbrev dktJ20_copyOf_2_1 : List UInt8 := dkwJ20_copyOf_2_1 ++ []
def dkwJ20_copyOf_2_0 : List UInt8 := [27, 42, 190, 160, 0, 11, 42, 182, 1, 54, 192, 1, 55, 176, 27, 188, 8, 77, 42, 3, 44, 3, 42, 190]
abbrev dktJ20_copyOf_2_0 : List UInt8 := dkwJ20_copyOf_2_0 ++ dktJ20_copyOf_2_1
theorem dksJ20_copyOf_2_0 : cJ20_copyOf_2.data.toList.drop 0 = dktJ20_copyOf_2_0 := by decide +kernel
theorem dksJ20_copyOf_2_1 : cJ20_copyOf_2.data.toList.drop 24 = dktJ20_copyOf_2_1 := dk_seg dksJ20_copyOf_2_0 24 rfl rfl
theorem dJ20_copyOf_2_0 : decode cJ20_copyOf_2 0 = .ok (.iload_n 1, 1) := dk_27 (dk_at dksJ20_copyOf_2_0 0 rfl rfl)
theorem dJ20_copyOf_2_1 : decode cJ20_copyOf_2 1 = .ok (.aload_n 0, 1) := dk_42 (dk_at dksJ20_copyOf_2_0 1 rfl rfl)
theorem dJ20_copyOf_2_2 : decode cJ20_copyOf_2 2 = .ok (.arraylength, 1) := dk_190 (dk_at dksJ20_copyOf_2_0 2 rfl rfl)
theorem dJ20_copyOf_2_3 : decode cJ20_copyOf_2 3 = .ok (.if_icmp .ne 11, 3) := dk_160 0 11 (dk_at dksJ20_copyOf_2_0 3 rfl rfl)
theorem dJ20_copyOf_2_6 : decode cJ20_copyOf_2 6 = .ok (.aload_n 0, 1) := dk_42 (dk_at dksJ20_copyOf_2_0 6 rfl rfl)
theorem dJ20_copyOf_2_7 : decode cJ20_copyOf_2 7 = .ok (.invokevirtual 310, 3) := dk_182 1 54 (dk_at dksJ20_copyOf_2_0 7 rfl rfl)
theorem dJ20_copyOf_2_10 : decode cJ20_copyOf_2 10 = .ok (.checkcast 311, 3) := dk_192 1 55 (dk_at dksJ20_copyOf_2_0 10 rfl rfl)
theorem dJ20_copyOf_2_13 : decode cJ20_copyOf_2 13 = .ok (.areturn, 1) := dk_176 (dk_at dksJ20_copyOf_2_0 13 rfl rfl)
theorem dJ20_copyOf_2_14 : decode cJ20_copyOf_2 14 = .ok (.iload_n 1, 1) := dk_27 (dk_at dksJ20_copyOf_2_0 14 rfl rfl)
theorem dJ20_copyOf_2_15 : decode cJ20_copyOf_2 15 = .ok (.newarray .byte, 2) := dk_188_8 (dk_at dksJ20_copyOf_2_0 15 rfl rfl)
theorem dJ20_copyOf_2_17 : decode cJ20_copyOf_2 17 = .ok (.astore_n 2, 1) := dk_77 (dk_at dksJ20_copyOf_2_0 17 rfl rfl)
theorem dJ20_copyOf_2_18 : decode cJ20_copyOf_2 18 = .ok (.aload_n 0, 1) := dk_42 (dk_at dksJ20_copyOf_2_0 18 rfl rfl)
theorem dJ20_copyOf_2_19 : decode cJ20_copyOf_2 19 = .ok (.iconst 0, 1) := dk_3 (dk_at dksJ20_copyOf_2_0 19 rfl rfl)
theorem dJ20_copyOf_2_20 : decode cJ20_copyOf_2 20 = .ok (.aload_n 2, 1) := dk_44 (dk_at dksJ20_copyOf_2_0 20 rfl rfl)
theorem dJ20_copyOf_2_21 : decode cJ20_copyOf_2 21 = .ok (.iconst 0, 1) := dk_3 (dk_at dksJ20_copyOf_2_0 21 rfl rfl)
theorem dJ20_copyOf_2_22 : decode cJ20_copyOf_2 22 = .ok (.aload_n 0, 1) := dk_42 (dk_at dksJ20_copyOf_2_0 22 rfl rfl)
theorem dJ20_copyOf_2_23 : decode cJ20_copyOf_2 23 = .ok (.arraylength, 1) := dk_190 (dk_at dksJ20_copyOf_2_0 23 rfl rfl)
theorem dJ20_copyOf_2_24 : decode cJ20_copyOf_2 24 = .ok (.iload_n 1, 1) := dk_27 (dk_at dksJ20_copyOf_2_1 0 rfl rfl)
theorem dJ20_copyOf_2_25 : decode cJ20_copyOf_2 25 = .ok (.invokestatic 304, 3) := dk_184 1 48 (dk_at dksJ20_copyOf_2_1 1 rfl rfl)
theorem dJ20_copyOf_2_28 : decode cJ20_copyOf_2 28 = .ok (.invokestatic 150, 3) := dk_184 0 150 (dk_at dksJ20_copyOf_2_1 4 rfl rfl)
theorem dJ20_copyOf_2_31 : decode cJ20_copyOf_2 31 = .ok (.aload_n 2, 1) := dk_44 (dk_at dksJ20_copyOf_2_1 7 rfl rfl)
theorem dJ20_copyOf_2_32 : decode cJ20_copyOf_2 32 = .ok (.areturn, 1) := dk_176 (dk_at dksJ20_copyOf_2_1 8 rfl rfl)
abbrev cJ20_copyOfRange : ByteArray := prog_41_method_132_code
def yJ20_copyOfRange : MethodName := ⟨RJ20, "copyOfRange", "([BII)[B"⟩
def dkwJ20_copyOfRange_1 : List UInt8 := [176]
abbrev dktJ20_copyOfRange_1 : List UInt8 := dkwJ20_copyOfRange_1 ++ []
def dkwJ20_copyOfRange_0 : List UInt8 := [27, 154, 0, 9, 28, 42, 190, 159, 0, 10, 42, 27, 28, 184, 1, 83, 176, 42, 182, 1, 54, 192, 1, 55]
abbrev dktJ20_copyOfRange_0 : List UInt8 := dkwJ20_copyOfRange_0 ++ dktJ20_copyOfRange_1
theorem dksJ20_copyOfRange_0 : cJ20_copyOfRange.data.toList.drop 0 = dktJ20_copyOfRange_0 := by decide +kernel
theorem dksJ20_copyOfRange_1 : cJ20_copyOfRange.data.toList.drop 24 = dktJ20_copyOfRange_1 := dk_seg dksJ20_copyOfRange_0 24 rfl rfl
theorem dJ20_copyOfRange_0 : decode cJ20_copyOfRange 0 = .ok (.iload_n 1, 1) := dk_27 (dk_at dksJ20_copyOfRange_0 0 rfl rfl)
theorem dJ20_copyOfRange_1 : decode cJ20_copyOfRange 1 = .ok (.ifCond .ne 9, 3) := dk_154 0 9 (dk_at dksJ20_copyOfRange_0 1 rfl rfl)
theorem dJ20_copyOfRange_4 : decode cJ20_copyOfRange 4 = .ok (.iload_n 2, 1) := dk_28 (dk_at dksJ20_copyOfRange_0 4 rfl rfl)
theorem dJ20_copyOfRange_5 : decode cJ20_copyOfRange 5 = .ok (.aload_n 0, 1) := dk_42 (dk_at dksJ20_copyOfRange_0 5 rfl rfl)
theorem dJ20_copyOfRange_6 : decode cJ20_copyOfRange 6 = .ok (.arraylength, 1) := dk_190 (dk_at dksJ20_copyOfRange_0 6 rfl rfl)
theorem dJ20_copyOfRange_7 : decode cJ20_copyOfRange 7 = .ok (.if_icmp .eq 10, 3) := dk_159 0 10 (dk_at dksJ20_copyOfRange_0 7 rfl rfl)
theorem dJ20_copyOfRange_10 : decode cJ20_copyOfRange 10 = .ok (.aload_n 0, 1) := dk_42 (dk_at dksJ20_copyOfRange_0 10 rfl rfl)
theorem dJ20_copyOfRange_11 : decode cJ20_copyOfRange 11 = .ok (.iload_n 1, 1) := dk_27 (dk_at dksJ20_copyOfRange_0 11 rfl rfl)
theorem dJ20_copyOfRange_12 : decode cJ20_copyOfRange 12 = .ok (.iload_n 2, 1) := dk_28 (dk_at dksJ20_copyOfRange_0 12 rfl rfl)
theorem dJ20_copyOfRange_13 : decode cJ20_copyOfRange 13 = .ok (.invokestatic 339, 3) := dk_184 1 83 (dk_at dksJ20_copyOfRange_0 13 rfl rfl)
theorem dJ20_copyOfRange_16 : decode cJ20_copyOfRange 16 = .ok (.areturn, 1) := dk_176 (dk_at dksJ20_copyOfRange_0 16 rfl rfl)
theorem dJ20_copyOfRange_17 : decode cJ20_copyOfRange 17 = .ok (.aload_n 0, 1) := dk_42 (dk_at dksJ20_copyOfRange_0 17 rfl rfl)
theorem dJ20_copyOfRange_18 : decode cJ20_copyOfRange 18 = .ok (.invokevirtual 310, 3) := dk_182 1 54 (dk_at dksJ20_copyOfRange_0 18 rfl rfl)
theorem dJ20_copyOfRange_21 : decode cJ20_copyOfRange 21 = .ok (.checkcast 311, 3) := dk_192 1 55 (dk_at dksJ20_copyOfRange_0 21 rfl rfl)
theorem dJ20_copyOfRange_24 : decode cJ20_copyOfRange 24 = .ok (.areturn, 1) := dk_176 (dk_at dksJ20_copyOfRange_1 0 rfl rfl)
abbrev cJ20_copyOfRangeByte : ByteArray := prog_41_method_133_code
def yJ20_copyOfRangeByte : MethodName := ⟨RJ20, "copyOfRangeByte", "([BII)[B"⟩
def dkwJ20_copyOfRangeByte_1 : List UInt8 := [184, 1, 48, 184, 0, 150, 25, 4, 176]
abbrev dktJ20_copyOfRangeByte_1 : List UInt8 := dkwJ20_copyOfRangeByte_1 ++ []
def dkwJ20_copyOfRangeByte_0 : List UInt8 := [27, 28, 184, 1, 87, 28, 27, 100, 62, 29, 188, 8, 58, 4, 42, 27, 25, 4, 3, 42, 190, 27, 100, 29]
abbrev dktJ20_copyOfRangeByte_0 : List UInt8 := dkwJ20_copyOfRangeByte_0 ++ dktJ20_copyOfRangeByte_1
theorem dksJ20_copyOfRangeByte_0 : cJ20_copyOfRangeByte.data.toList.drop 0 = dktJ20_copyOfRangeByte_0 := by decide +kernel
theorem dksJ20_copyOfRangeByte_1 : cJ20_copyOfRangeByte.data.toList.drop 24 = dktJ20_copyOfRangeByte_1 := dk_seg dksJ20_copyOfRangeByte_0 24 rfl rfl
theorem dJ20_copyOfRangeByte_0 : decode cJ20_copyOfRangeByte 0 = .ok (.iload_n 1, 1) := dk_27 (dk_at dksJ20_copyOfRangeByte_0 0 rfl rfl)
theorem dJ20_copyOfRangeByte_1 : decode cJ20_copyOfRangeByte 1 = .ok (.iload_n 2, 1) := dk_28 (dk_at dksJ20_copyOfRangeByte_0 1 rfl rfl)
theorem dJ20_copyOfRangeByte_2 : decode cJ20_copyOfRangeByte 2 = .ok (.invokestatic 343, 3) := dk_184 1 87 (dk_at dksJ20_copyOfRangeByte_0 2 rfl rfl)
theorem dJ20_copyOfRangeByte_5 : decode cJ20_copyOfRangeByte 5 = .ok (.iload_n 2, 1) := dk_28 (dk_at dksJ20_copyOfRangeByte_0 5 rfl rfl)
theorem dJ20_copyOfRangeByte_6 : decode cJ20_copyOfRangeByte 6 = .ok (.iload_n 1, 1) := dk_27 (dk_at dksJ20_copyOfRangeByte_0 6 rfl rfl)
theorem dJ20_copyOfRangeByte_7 : decode cJ20_copyOfRangeByte 7 = .ok (.isub, 1) := dk_100 (dk_at dksJ20_copyOfRangeByte_0 7 rfl rfl)
theorem dJ20_copyOfRangeByte_8 : decode cJ20_copyOfRangeByte 8 = .ok (.istore_n 3, 1) := dk_62 (dk_at dksJ20_copyOfRangeByte_0 8 rfl rfl)
theorem dJ20_copyOfRangeByte_9 : decode cJ20_copyOfRangeByte 9 = .ok (.iload_n 3, 1) := dk_29 (dk_at dksJ20_copyOfRangeByte_0 9 rfl rfl)
theorem dJ20_copyOfRangeByte_10 : decode cJ20_copyOfRangeByte 10 = .ok (.newarray .byte, 2) := dk_188_8 (dk_at dksJ20_copyOfRangeByte_0 10 rfl rfl)
theorem dJ20_copyOfRangeByte_12 : decode cJ20_copyOfRangeByte 12 = .ok (.astore 4, 2) := dk_58 4 (dk_at dksJ20_copyOfRangeByte_0 12 rfl rfl)
theorem dJ20_copyOfRangeByte_14 : decode cJ20_copyOfRangeByte 14 = .ok (.aload_n 0, 1) := dk_42 (dk_at dksJ20_copyOfRangeByte_0 14 rfl rfl)
theorem dJ20_copyOfRangeByte_15 : decode cJ20_copyOfRangeByte 15 = .ok (.iload_n 1, 1) := dk_27 (dk_at dksJ20_copyOfRangeByte_0 15 rfl rfl)
theorem dJ20_copyOfRangeByte_16 : decode cJ20_copyOfRangeByte 16 = .ok (.aload 4, 2) := dk_25 4 (dk_at dksJ20_copyOfRangeByte_0 16 rfl rfl)
theorem dJ20_copyOfRangeByte_18 : decode cJ20_copyOfRangeByte 18 = .ok (.iconst 0, 1) := dk_3 (dk_at dksJ20_copyOfRangeByte_0 18 rfl rfl)
theorem dJ20_copyOfRangeByte_19 : decode cJ20_copyOfRangeByte 19 = .ok (.aload_n 0, 1) := dk_42 (dk_at dksJ20_copyOfRangeByte_0 19 rfl rfl)
theorem dJ20_copyOfRangeByte_20 : decode cJ20_copyOfRangeByte 20 = .ok (.arraylength, 1) := dk_190 (dk_at dksJ20_copyOfRangeByte_0 20 rfl rfl)
theorem dJ20_copyOfRangeByte_21 : decode cJ20_copyOfRangeByte 21 = .ok (.iload_n 1, 1) := dk_27 (dk_at dksJ20_copyOfRangeByte_0 21 rfl rfl)
theorem dJ20_copyOfRangeByte_22 : decode cJ20_copyOfRangeByte 22 = .ok (.isub, 1) := dk_100 (dk_at dksJ20_copyOfRangeByte_0 22 rfl rfl)
theorem dJ20_copyOfRangeByte_23 : decode cJ20_copyOfRangeByte 23 = .ok (.iload_n 3, 1) := dk_29 (dk_at dksJ20_copyOfRangeByte_0 23 rfl rfl)
theorem dJ20_copyOfRangeByte_24 : decode cJ20_copyOfRangeByte 24 = .ok (.invokestatic 304, 3) := dk_184 1 48 (dk_at dksJ20_copyOfRangeByte_1 0 rfl rfl)
theorem dJ20_copyOfRangeByte_27 : decode cJ20_copyOfRangeByte 27 = .ok (.invokestatic 150, 3) := dk_184 0 150 (dk_at dksJ20_copyOfRangeByte_1 3 rfl rfl)
theorem dJ20_copyOfRangeByte_30 : decode cJ20_copyOfRangeByte 30 = .ok (.aload 4, 2) := dk_25 4 (dk_at dksJ20_copyOfRangeByte_1 6 rfl rfl)
theorem dJ20_copyOfRangeByte_32 : decode cJ20_copyOfRangeByte 32 = .ok (.areturn, 1) := dk_176 (dk_at dksJ20_copyOfRangeByte_1 8 rfl rfl)
abbrev cJ20_checkLength : ByteArray := prog_41_method_131_code
def yJ20_checkLength : MethodName := ⟨RJ20, "checkLength", "(II)V"⟩
def dkwJ20_checkLength_1 : List UInt8 := [182, 0, 50, 27, 182, 0, 54, 182, 0, 61, 183, 0, 65, 191, 177]
abbrev dktJ20_checkLength_1 : List UInt8 := dkwJ20_checkLength_1 ++ []
def dkwJ20_checkLength_0 : List UInt8 := [27, 26, 162, 0, 35, 187, 0, 43, 89, 187, 0, 45, 89, 183, 0, 47, 26, 182, 0, 54, 19, 1, 81]
abbrev dktJ20_checkLength_0 : List UInt8 := dkwJ20_checkLength_0 ++ dktJ20_checkLength_1
theorem dksJ20_checkLength_0 : cJ20_checkLength.data.toList.drop 0 = dktJ20_checkLength_0 := by decide +kernel
theorem dksJ20_checkLength_1 : cJ20_checkLength.data.toList.drop 23 = dktJ20_checkLength_1 := dk_seg dksJ20_checkLength_0 23 rfl rfl
theorem dJ20_checkLength_0 : decode cJ20_checkLength 0 = .ok (.iload_n 1, 1) := dk_27 (dk_at dksJ20_checkLength_0 0 rfl rfl)
theorem dJ20_checkLength_1 : decode cJ20_checkLength 1 = .ok (.iload_n 0, 1) := dk_26 (dk_at dksJ20_checkLength_0 1 rfl rfl)
theorem dJ20_checkLength_2 : decode cJ20_checkLength 2 = .ok (.if_icmp .ge 35, 3) := dk_162 0 35 (dk_at dksJ20_checkLength_0 2 rfl rfl)
theorem dJ20_checkLength_5 : decode cJ20_checkLength 5 = .ok (.new 43, 3) := dk_187 0 43 (dk_at dksJ20_checkLength_0 5 rfl rfl)
theorem dJ20_checkLength_8 : decode cJ20_checkLength 8 = .ok (.dup, 1) := dk_89 (dk_at dksJ20_checkLength_0 8 rfl rfl)
theorem dJ20_checkLength_9 : decode cJ20_checkLength 9 = .ok (.new 45, 3) := dk_187 0 45 (dk_at dksJ20_checkLength_0 9 rfl rfl)
theorem dJ20_checkLength_12 : decode cJ20_checkLength 12 = .ok (.dup, 1) := dk_89 (dk_at dksJ20_checkLength_0 12 rfl rfl)
theorem dJ20_checkLength_13 : decode cJ20_checkLength 13 = .ok (.invokespecial 47, 3) := dk_183 0 47 (dk_at dksJ20_checkLength_0 13 rfl rfl)
theorem dJ20_checkLength_16 : decode cJ20_checkLength 16 = .ok (.iload_n 0, 1) := dk_26 (dk_at dksJ20_checkLength_0 16 rfl rfl)
theorem dJ20_checkLength_17 : decode cJ20_checkLength 17 = .ok (.invokevirtual 54, 3) := dk_182 0 54 (dk_at dksJ20_checkLength_0 17 rfl rfl)
theorem dJ20_checkLength_20 : decode cJ20_checkLength 20 = .ok (.ldc_w 337, 3) := dk_19 1 81 (dk_at dksJ20_checkLength_0 20 rfl rfl)
theorem dJ20_checkLength_23 : decode cJ20_checkLength 23 = .ok (.invokevirtual 50, 3) := dk_182 0 50 (dk_at dksJ20_checkLength_1 0 rfl rfl)
theorem dJ20_checkLength_26 : decode cJ20_checkLength 26 = .ok (.iload_n 1, 1) := dk_27 (dk_at dksJ20_checkLength_1 3 rfl rfl)
theorem dJ20_checkLength_27 : decode cJ20_checkLength 27 = .ok (.invokevirtual 54, 3) := dk_182 0 54 (dk_at dksJ20_checkLength_1 4 rfl rfl)
theorem dJ20_checkLength_30 : decode cJ20_checkLength 30 = .ok (.invokevirtual 61, 3) := dk_182 0 61 (dk_at dksJ20_checkLength_1 7 rfl rfl)
theorem dJ20_checkLength_33 : decode cJ20_checkLength 33 = .ok (.invokespecial 65, 3) := dk_183 0 65 (dk_at dksJ20_checkLength_1 10 rfl rfl)
theorem dJ20_checkLength_36 : decode cJ20_checkLength 36 = .ok (.athrow, 1) := dk_191 (dk_at dksJ20_checkLength_1 13 rfl rfl)
theorem dJ20_checkLength_37 : decode cJ20_checkLength 37 = .ok (.return_, 1) := dk_177 (dk_at dksJ20_checkLength_1 14 rfl rfl)
abbrev cJ20_copyOf_3 : ByteArray := prog_41_method_119_code
def yJ20_copyOf_3 : MethodName := ⟨RJ20, "copyOf", "([Ljava/lang/Object;I)[Ljava/lang/Object;"⟩
def dkwJ20_copyOf_3_0 : List UInt8 := [42, 27, 42, 182, 0, 86, 184, 1, 44, 176]
abbrev dktJ20_copyOf_3_0 : List UInt8 := dkwJ20_copyOf_3_0 ++ []
theorem dksJ20_copyOf_3_0 : cJ20_copyOf_3.data.toList.drop 0 = dktJ20_copyOf_3_0 := by decide +kernel
theorem dJ20_copyOf_3_0 : decode cJ20_copyOf_3 0 = .ok (.aload_n 0, 1) := dk_42 (dk_at dksJ20_copyOf_3_0 0 rfl rfl)
theorem dJ20_copyOf_3_1 : decode cJ20_copyOf_3 1 = .ok (.iload_n 1, 1) := dk_27 (dk_at dksJ20_copyOf_3_0 1 rfl rfl)
theorem dJ20_copyOf_3_2 : decode cJ20_copyOf_3 2 = .ok (.aload_n 0, 1) := dk_42 (dk_at dksJ20_copyOf_3_0 2 rfl rfl)
theorem dJ20_copyOf_3_3 : decode cJ20_copyOf_3 3 = .ok (.invokevirtual 86, 3) := dk_182 0 86 (dk_at dksJ20_copyOf_3_0 3 rfl rfl)
theorem dJ20_copyOf_3_6 : decode cJ20_copyOf_3 6 = .ok (.invokestatic 300, 3) := dk_184 1 44 (dk_at dksJ20_copyOf_3_0 6 rfl rfl)
theorem dJ20_copyOf_3_9 : decode cJ20_copyOf_3 9 = .ok (.areturn, 1) := dk_176 (dk_at dksJ20_copyOf_3_0 9 rfl rfl)
abbrev cJ20_copyOf_4 : ByteArray := prog_41_method_120_code
def yJ20_copyOf_4 : MethodName := ⟨RJ20, "copyOf", "([Ljava/lang/Object;ILjava/lang/Class;)[Ljava/lang/Object;"⟩
def dkwJ20_copyOf_4_1 : List UInt8 := [78, 42, 3, 45, 3, 42, 190, 27, 184, 1, 48, 184, 0, 150, 45, 176]
abbrev dktJ20_copyOf_4_1 : List UInt8 := dkwJ20_copyOf_4_1 ++ []
def dkwJ20_copyOf_4_0 : List UInt8 := [44, 18, 110, 166, 0, 10, 27, 189, 0, 2, 167, 0, 14, 44, 182, 0, 90, 27, 184, 0, 95, 192, 0, 110]
abbrev dktJ20_copyOf_4_0 : List UInt8 := dkwJ20_copyOf_4_0 ++ dktJ20_copyOf_4_1
theorem dksJ20_copyOf_4_0 : cJ20_copyOf_4.data.toList.drop 0 = dktJ20_copyOf_4_0 := by decide +kernel
theorem dksJ20_copyOf_4_1 : cJ20_copyOf_4.data.toList.drop 24 = dktJ20_copyOf_4_1 := dk_seg dksJ20_copyOf_4_0 24 rfl rfl
theorem dJ20_copyOf_4_0 : decode cJ20_copyOf_4 0 = .ok (.aload_n 2, 1) := dk_44 (dk_at dksJ20_copyOf_4_0 0 rfl rfl)
theorem dJ20_copyOf_4_1 : decode cJ20_copyOf_4 1 = .ok (.ldc 110, 2) := dk_18 110 (dk_at dksJ20_copyOf_4_0 1 rfl rfl)
theorem dJ20_copyOf_4_3 : decode cJ20_copyOf_4 3 = .ok (.if_acmp .ne 10, 3) := dk_166 0 10 (dk_at dksJ20_copyOf_4_0 3 rfl rfl)
theorem dJ20_copyOf_4_6 : decode cJ20_copyOf_4 6 = .ok (.iload_n 1, 1) := dk_27 (dk_at dksJ20_copyOf_4_0 6 rfl rfl)
theorem dJ20_copyOf_4_7 : decode cJ20_copyOf_4 7 = .ok (.anewarray 2, 3) := dk_189 0 2 (dk_at dksJ20_copyOf_4_0 7 rfl rfl)
theorem dJ20_copyOf_4_10 : decode cJ20_copyOf_4 10 = .ok (.goto 14, 3) := dk_167 0 14 (dk_at dksJ20_copyOf_4_0 10 rfl rfl)
theorem dJ20_copyOf_4_13 : decode cJ20_copyOf_4 13 = .ok (.aload_n 2, 1) := dk_44 (dk_at dksJ20_copyOf_4_0 13 rfl rfl)
theorem dJ20_copyOf_4_14 : decode cJ20_copyOf_4 14 = .ok (.invokevirtual 90, 3) := dk_182 0 90 (dk_at dksJ20_copyOf_4_0 14 rfl rfl)
theorem dJ20_copyOf_4_17 : decode cJ20_copyOf_4 17 = .ok (.iload_n 1, 1) := dk_27 (dk_at dksJ20_copyOf_4_0 17 rfl rfl)
theorem dJ20_copyOf_4_18 : decode cJ20_copyOf_4 18 = .ok (.invokestatic 95, 3) := dk_184 0 95 (dk_at dksJ20_copyOf_4_0 18 rfl rfl)
theorem dJ20_copyOf_4_21 : decode cJ20_copyOf_4 21 = .ok (.checkcast 110, 3) := dk_192 0 110 (dk_at dksJ20_copyOf_4_0 21 rfl rfl)
theorem dJ20_copyOf_4_24 : decode cJ20_copyOf_4 24 = .ok (.astore_n 3, 1) := dk_78 (dk_at dksJ20_copyOf_4_1 0 rfl rfl)
theorem dJ20_copyOf_4_25 : decode cJ20_copyOf_4 25 = .ok (.aload_n 0, 1) := dk_42 (dk_at dksJ20_copyOf_4_1 1 rfl rfl)
theorem dJ20_copyOf_4_26 : decode cJ20_copyOf_4 26 = .ok (.iconst 0, 1) := dk_3 (dk_at dksJ20_copyOf_4_1 2 rfl rfl)
theorem dJ20_copyOf_4_27 : decode cJ20_copyOf_4 27 = .ok (.aload_n 3, 1) := dk_45 (dk_at dksJ20_copyOf_4_1 3 rfl rfl)
theorem dJ20_copyOf_4_28 : decode cJ20_copyOf_4 28 = .ok (.iconst 0, 1) := dk_3 (dk_at dksJ20_copyOf_4_1 4 rfl rfl)
theorem dJ20_copyOf_4_29 : decode cJ20_copyOf_4 29 = .ok (.aload_n 0, 1) := dk_42 (dk_at dksJ20_copyOf_4_1 5 rfl rfl)
theorem dJ20_copyOf_4_30 : decode cJ20_copyOf_4 30 = .ok (.arraylength, 1) := dk_190 (dk_at dksJ20_copyOf_4_1 6 rfl rfl)
theorem dJ20_copyOf_4_31 : decode cJ20_copyOf_4 31 = .ok (.iload_n 1, 1) := dk_27 (dk_at dksJ20_copyOf_4_1 7 rfl rfl)
theorem dJ20_copyOf_4_32 : decode cJ20_copyOf_4 32 = .ok (.invokestatic 304, 3) := dk_184 1 48 (dk_at dksJ20_copyOf_4_1 8 rfl rfl)
theorem dJ20_copyOf_4_35 : decode cJ20_copyOf_4 35 = .ok (.invokestatic 150, 3) := dk_184 0 150 (dk_at dksJ20_copyOf_4_1 11 rfl rfl)
theorem dJ20_copyOf_4_38 : decode cJ20_copyOf_4 38 = .ok (.aload_n 3, 1) := dk_45 (dk_at dksJ20_copyOf_4_1 14 rfl rfl)
theorem dJ20_copyOf_4_39 : decode cJ20_copyOf_4 39 = .ok (.areturn, 1) := dk_176 (dk_at dksJ20_copyOf_4_1 15 rfl rfl)
theorem q144 : (Jvm.Cond.initialized "java/util/Arrays") ∈ lw_all := lw_g (lw_at lw_m1 27 rfl) rfl
theorem q970 : (Jvm.Cond.static ({ cls := "java/util/Arrays", name := "copyOf", desc := "([JI)[J" } : Jvm.MethodName)) ∈ lw_all := lw_g (lw_at lw_m4 133 rfl) rfl
theorem q971 : (Jvm.Cond.code ({ cls := "java/util/Arrays", name := "copyOf", desc := "([JI)[J" } : Jvm.MethodName) prog_41_method_124_code (3 : Nat) (Option.some (Jvm.ClassFile.FieldType.array Jvm.ClassFile.FieldType.long))) ∈ lw_all := lw_g (lw_at lw_m4 134 rfl) rfl
theorem q972 : (Jvm.Cond.methodLink "java/util/Arrays" (319 : Nat) ({ cls := "[J", name := "clone", desc := "()Ljava/lang/Object;" } : Jvm.MethodName)) ∈ lw_all := lw_g (lw_at lw_m4 135 rfl) rfl
theorem q978 : (Jvm.Cond.classLink "java/util/Arrays" (320 : Nat) "[J") ∈ lw_all := lw_g (lw_at lw_m4 141 rfl) rfl
theorem q979 : (Jvm.Cond.methodLink "java/util/Arrays" (304 : Nat) ({ cls := "java/lang/Math", name := "min", desc := "(II)I" } : Jvm.MethodName)) ∈ lw_all := lw_g (lw_at lw_m4 142 rfl) rfl
theorem q980 : (Jvm.Cond.methodLink "java/util/Arrays" (150 : Nat) ({ cls := "java/lang/System", name := "arraycopy", desc := "(Ljava/lang/Object;ILjava/lang/Object;II)V" } : Jvm.MethodName)) ∈ lw_all := lw_g (lw_at lw_m4 143 rfl) rfl
theorem q1264 : (Jvm.Cond.static ({ cls := "java/util/Arrays", name := "copyOf", desc := "([BI)[B" } : Jvm.MethodName)) ∈ lw_all := lw_g (lw_at lw_m5 187 rfl) rfl
theorem q1265 : (Jvm.Cond.code ({ cls := "java/util/Arrays", name := "copyOf", desc := "([BI)[B" } : Jvm.MethodName) prog_41_method_121_code (3 : Nat) (Option.some (Jvm.ClassFile.FieldType.array Jvm.ClassFile.FieldType.byte))) ∈ lw_all := lw_g (lw_at lw_m5 188 rfl) rfl
theorem q1266 : (Jvm.Cond.methodLink "java/util/Arrays" (310 : Nat) ({ cls := "[B", name := "clone", desc := "()Ljava/lang/Object;" } : Jvm.MethodName)) ∈ lw_all := lw_g (lw_at lw_m5 189 rfl) rfl
theorem q1270 : (Jvm.Cond.classLink "java/util/Arrays" (311 : Nat) "[B") ∈ lw_all := lw_g (lw_at lw_m5 193 rfl) rfl
theorem q1346 : (Jvm.Cond.static ({ cls := "java/util/Arrays", name := "copyOfRange", desc := "([BII)[B" } : Jvm.MethodName)) ∈ lw_all := lw_g (lw_at lw_m6 29 rfl) rfl
theorem q1347 : (Jvm.Cond.code ({ cls := "java/util/Arrays", name := "copyOfRange", desc := "([BII)[B" } : Jvm.MethodName) prog_41_method_132_code (3 : Nat) (Option.some (Jvm.ClassFile.FieldType.array Jvm.ClassFile.FieldType.byte))) ∈ lw_all := lw_g (lw_at lw_m6 30 rfl) rfl
theorem q1348 : (Jvm.Cond.methodLink "java/util/Arrays" (339 : Nat) ({ cls := "java/util/Arrays", name := "copyOfRangeByte", desc := "([BII)[B" } : Jvm.MethodName)) ∈ lw_all := lw_g (lw_at lw_m6 31 rfl) rfl
theorem q1349 : (Jvm.Cond.static ({ cls := "java/util/Arrays", name := "copyOfRangeByte", desc := "([BII)[B" } : Jvm.MethodName)) ∈ lw_all := lw_g (lw_at lw_m6 32 rfl) rfl
theorem q1350 : (Jvm.Cond.code ({ cls := "java/util/Arrays", name := "copyOfRangeByte", desc := "([BII)[B" } : Jvm.MethodName) prog_41_method_133_code (5 : Nat) (Option.some (Jvm.ClassFile.FieldType.array Jvm.ClassFile.FieldType.byte))) ∈ lw_all := lw_g (lw_at lw_m6 33 rfl) rfl
theorem q1351 : (Jvm.Cond.methodLink "java/util/Arrays" (343 : Nat) ({ cls := "java/util/Arrays", name := "checkLength", desc := "(II)V" } : Jvm.MethodName)) ∈ lw_all := lw_g (lw_at lw_m6 34 rfl) rfl
theorem q1352 : (Jvm.Cond.static ({ cls := "java/util/Arrays", name := "checkLength", desc := "(II)V" } : Jvm.MethodName)) ∈ lw_all := lw_g (lw_at lw_m6 35 rfl) rfl
theorem q1353 : (Jvm.Cond.code ({ cls := "java/util/Arrays", name := "checkLength", desc := "(II)V" } : Jvm.MethodName) prog_41_method_131_code (2 : Nat) (Option.none : Option Jvm.ClassFile.FieldType)) ∈ lw_all := lw_g (lw_at lw_m6 36 rfl) rfl
theorem q1593 : (Jvm.Cond.static ({ cls := "java/util/Arrays", name := "copyOf", desc := "([Ljava/lang/Object;I)[Ljava/lang/Object;" } : Jvm.MethodName)) ∈ lw_all := lw_g (lw_at lw_m7 36 rfl) rfl
theorem q1594 : (Jvm.Cond.code ({ cls := "java/util/Arrays", name := "copyOf", desc := "([Ljava/lang/Object;I)[Ljava/lang/Object;" } : Jvm.MethodName) prog_41_method_119_code (2 : Nat) (Option.some (Jvm.ClassFile.FieldType.array (Jvm.ClassFile.FieldType.object "java/lang/Object")))) ∈ lw_all := lw_g (lw_at lw_m7 37 rfl) rfl
theorem q1595 : (Jvm.Cond.methodLink "java/util/Arrays" (86 : Nat) ({ cls := "java/lang/Object", name := "getClass", desc := "()Ljava/lang/Class;" } : Jvm.MethodName)) ∈ lw_all := lw_g (lw_at lw_m7 38 rfl) rfl
theorem q1596 : (Jvm.Cond.methodLink "java/util/Arrays" (300 : Nat) ({ cls := "java/util/Arrays", name := "copyOf", desc := "([Ljava/lang/Object;ILjava/lang/Class;)[Ljava/lang/Object;" } : Jvm.MethodName)) ∈ lw_all := lw_g (lw_at lw_m7 39 rfl) rfl
theorem q1597 : (Jvm.Cond.static ({ cls := "java/util/Arrays", name := "copyOf", desc := "([Ljava/lang/Object;ILjava/lang/Class;)[Ljava/lang/Object;" } : Jvm.MethodName)) ∈ lw_all := lw_g (lw_at lw_m7 40 rfl) rfl
theorem q1598 : (Jvm.Cond.code ({ cls := "java/util/Arrays", name := "copyOf", desc := "([Ljava/lang/Object;ILjava/lang/Class;)[Ljava/lang/Object;" } : Jvm.MethodName) prog_41_method_120_code (4 : Nat) (Option.some (Jvm.ClassFile.FieldType.array (Jvm.ClassFile.FieldType.object "java/lang/Object")))) ∈ lw_all := lw_g (lw_at lw_m7 41 rfl) rfl
theorem q1599 : (Jvm.Cond.classLink "java/util/Arrays" (110 : Nat) "[Ljava/lang/Object;") ∈ lw_all := lw_g (lw_at lw_m7 42 rfl) rfl
theorem q1600 : (Jvm.Cond.classLink "java/util/Arrays" (2 : Nat) "java/lang/Object") ∈ lw_all := lw_g (lw_at lw_m7 43 rfl) rfl
/-! java/util/AbstractList$Itr -/
set_option maxRecDepth 100000
def RJ21 : String := "java/util/AbstractList$Itr"
abbrev cJ21_hasNext : ByteArray := prog_36_method_2_code
def yJ21_hasNext : MethodName := ⟨RJ21, "hasNext", "()Z"⟩
def dkwJ21_hasNext_0 : List UInt8 := [42, 180, 0, 13, 42, 180, 0, 1, 182, 0, 28, 159, 0, 7, 4, 167, 0, 4, 3, 172]
abbrev dktJ21_hasNext_0 : List UInt8 := dkwJ21_hasNext_0 ++ []
theorem dksJ21_hasNext_0 : cJ21_hasNext.data.toList.drop 0 = dktJ21_hasNext_0 := by decide +kernel
theorem dJ21_hasNext_0 : decode cJ21_hasNext 0 = .ok (.aload_n 0, 1) := dk_42 (dk_at dksJ21_hasNext_0 0 rfl rfl)
theorem dJ21_hasNext_1 : decode cJ21_hasNext 1 = .ok (.getfield 13, 3) := dk_180 0 13 (dk_at dksJ21_hasNext_0 1 rfl rfl)
theorem dJ21_hasNext_4 : decode cJ21_hasNext 4 = .ok (.aload_n 0, 1) := dk_42 (dk_at dksJ21_hasNext_0 4 rfl rfl)
theorem dJ21_hasNext_5 : decode cJ21_hasNext 5 = .ok (.getfield 1, 3) := dk_180 0 1 (dk_at dksJ21_hasNext_0 5 rfl rfl)
theorem dJ21_hasNext_8 : decode cJ21_hasNext 8 = .ok (.invokevirtual 28, 3) := dk_182 0 28 (dk_at dksJ21_hasNext_0 8 rfl rfl)
theorem dJ21_hasNext_11 : decode cJ21_hasNext 11 = .ok (.if_icmp .eq 7, 3) := dk_159 0 7 (dk_at dksJ21_hasNext_0 11 rfl rfl)
theorem dJ21_hasNext_14 : decode cJ21_hasNext 14 = .ok (.iconst 1, 1) := dk_4 (dk_at dksJ21_hasNext_0 14 rfl rfl)
theorem dJ21_hasNext_15 : decode cJ21_hasNext 15 = .ok (.goto 4, 3) := dk_167 0 4 (dk_at dksJ21_hasNext_0 15 rfl rfl)
theorem dJ21_hasNext_18 : decode cJ21_hasNext 18 = .ok (.iconst 0, 1) := dk_3 (dk_at dksJ21_hasNext_0 18 rfl rfl)
theorem dJ21_hasNext_19 : decode cJ21_hasNext 19 = .ok (.ireturn, 1) := dk_172 (dk_at dksJ21_hasNext_0 19 rfl rfl)
abbrev cJ21_next : ByteArray := prog_36_method_3_code
def yJ21_next : MethodName := ⟨RJ21, "next", "()Ljava/lang/Object;"⟩
def dkwJ21_next_1 : List UInt8 := [27, 4, 96, 181, 0, 13, 44, 176, 76, 42, 182, 0, 32, 187, 0, 41, 89, 43, 183, 0, 43, 191]
abbrev dktJ21_next_1 : List UInt8 := dkwJ21_next_1 ++ []
def dkwJ21_next_0 : List UInt8 := [42, 182, 0, 32, 42, 180, 0, 13, 60, 42, 180, 0, 1, 27, 182, 0, 35, 77, 42, 27, 181, 0, 17, 42]
abbrev dktJ21_next_0 : List UInt8 := dkwJ21_next_0 ++ dktJ21_next_1
theorem dksJ21_next_0 : cJ21_next.data.toList.drop 0 = dktJ21_next_0 := by decide +kernel
theorem dksJ21_next_1 : cJ21_next.data.toList.drop 24 = dktJ21_next_1 := dk_seg dksJ21_next_0 24 rfl rfl
theorem dJ21_next_0 : decode cJ21_next 0 = .ok (.aload_n 0, 1) := dk_42 (dk_at dksJ21_next_0 0 rfl rfl)
theorem dJ21_next_1 : decode cJ21_next 1 = .ok (.invokevirtual 32, 3) := dk_182 0 32 (dk_at dksJ21_next_0 1 rfl rfl)
theorem dJ21_next_4 : decode cJ21_next 4 = .ok (.aload_n 0, 1) := dk_42 (dk_at dksJ21_next_0 4 rfl rfl)
theorem dJ21_next_5 : decode cJ21_next 5 = .ok (.getfield 13, 3) := dk_180 0 13 (dk_at dksJ21_next_0 5 rfl rfl)
theorem dJ21_next_8 : decode cJ21_next 8 = .ok (.istore_n 1, 1) := dk_60 (dk_at dksJ21_next_0 8 rfl rfl)
theorem dJ21_next_9 : decode cJ21_next 9 = .ok (.aload_n 0, 1) := dk_42 (dk_at dksJ21_next_0 9 rfl rfl)
theorem dJ21_next_10 : decode cJ21_next 10 = .ok (.getfield 1, 3) := dk_180 0 1 (dk_at dksJ21_next_0 10 rfl rfl)
theorem dJ21_next_13 : decode cJ21_next 13 = .ok (.iload_n 1, 1) := dk_27 (dk_at dksJ21_next_0 13 rfl rfl)
theorem dJ21_next_14 : decode cJ21_next 14 = .ok (.invokevirtual 35, 3) := dk_182 0 35 (dk_at dksJ21_next_0 14 rfl rfl)
theorem dJ21_next_17 : decode cJ21_next 17 = .ok (.astore_n 2, 1) := dk_77 (dk_at dksJ21_next_0 17 rfl rfl)
theorem dJ21_next_18 : decode cJ21_next 18 = .ok (.aload_n 0, 1) := dk_42 (dk_at dksJ21_next_0 18 rfl rfl)
theorem dJ21_next_19 : decode cJ21_next 19 = .ok (.iload_n 1, 1) := dk_27 (dk_at dksJ21_next_0 19 rfl rfl)
theorem dJ21_next_20 : decode cJ21_next 20 = .ok (.putfield 17, 3) := dk_181 0 17 (dk_at dksJ21_next_0 20 rfl rfl)
theorem dJ21_next_23 : decode cJ21_next 23 = .ok (.aload_n 0, 1) := dk_42 (dk_at dksJ21_next_0 23 rfl rfl)
theorem dJ21_next_24 : decode cJ21_next 24 = .ok (.iload_n 1, 1) := dk_27 (dk_at dksJ21_next_1 0 rfl rfl)
theorem dJ21_next_25 : decode cJ21_next 25 = .ok (.iconst 1, 1) := dk_4 (dk_at dksJ21_next_1 1 rfl rfl)
theorem dJ21_next_26 : decode cJ21_next 26 = .ok (.iadd, 1) := dk_96 (dk_at dksJ21_next_1 2 rfl rfl)
theorem dJ21_next_27 : decode cJ21_next 27 = .ok (.putfield 13, 3) := dk_181 0 13 (dk_at dksJ21_next_1 3 rfl rfl)
theorem dJ21_next_30 : decode cJ21_next 30 = .ok (.aload_n 2, 1) := dk_44 (dk_at dksJ21_next_1 6 rfl rfl)
theorem dJ21_next_31 : decode cJ21_next 31 = .ok (.areturn, 1) := dk_176 (dk_at dksJ21_next_1 7 rfl rfl)
theorem dJ21_next_32 : decode cJ21_next 32 = .ok (.astore_n 1, 1) := dk_76 (dk_at dksJ21_next_1 8 rfl rfl)
theorem dJ21_next_33 : decode cJ21_next 33 = .ok (.aload_n 0, 1) := dk_42 (dk_at dksJ21_next_1 9 rfl rfl)
theorem dJ21_next_34 : decode cJ21_next 34 = .ok (.invokevirtual 32, 3) := dk_182 0 32 (dk_at dksJ21_next_1 10 rfl rfl)
theorem dJ21_next_37 : decode cJ21_next 37 = .ok (.new 41, 3) := dk_187 0 41 (dk_at dksJ21_next_1 13 rfl rfl)
theorem dJ21_next_40 : decode cJ21_next 40 = .ok (.dup, 1) := dk_89 (dk_at dksJ21_next_1 16 rfl rfl)
theorem dJ21_next_41 : decode cJ21_next 41 = .ok (.aload_n 1, 1) := dk_43 (dk_at dksJ21_next_1 17 rfl rfl)
theorem dJ21_next_42 : decode cJ21_next 42 = .ok (.invokespecial 43, 3) := dk_183 0 43 (dk_at dksJ21_next_1 18 rfl rfl)
theorem dJ21_next_45 : decode cJ21_next 45 = .ok (.athrow, 1) := dk_191 (dk_at dksJ21_next_1 21 rfl rfl)
abbrev cJ21_checkForComodification : ByteArray := prog_36_method_5_code
def yJ21_checkForComodification : MethodName := ⟨RJ21, "checkForComodification", "()V"⟩
def dkwJ21_checkForComodification_0 : List UInt8 := [42, 180, 0, 1, 180, 0, 20, 42, 180, 0, 25, 159, 0, 11, 187, 0, 52, 89, 183, 0, 54, 191, 177]
abbrev dktJ21_checkForComodification_0 : List UInt8 := dkwJ21_checkForComodification_0 ++ []
theorem dksJ21_checkForComodification_0 : cJ21_checkForComodification.data.toList.drop 0 = dktJ21_checkForComodification_0 := by decide +kernel
theorem dJ21_checkForComodification_0 : decode cJ21_checkForComodification 0 = .ok (.aload_n 0, 1) := dk_42 (dk_at dksJ21_checkForComodification_0 0 rfl rfl)
theorem dJ21_checkForComodification_1 : decode cJ21_checkForComodification 1 = .ok (.getfield 1, 3) := dk_180 0 1 (dk_at dksJ21_checkForComodification_0 1 rfl rfl)
theorem dJ21_checkForComodification_4 : decode cJ21_checkForComodification 4 = .ok (.getfield 20, 3) := dk_180 0 20 (dk_at dksJ21_checkForComodification_0 4 rfl rfl)
theorem dJ21_checkForComodification_7 : decode cJ21_checkForComodification 7 = .ok (.aload_n 0, 1) := dk_42 (dk_at dksJ21_checkForComodification_0 7 rfl rfl)
theorem dJ21_checkForComodification_8 : decode cJ21_checkForComodification 8 = .ok (.getfield 25, 3) := dk_180 0 25 (dk_at dksJ21_checkForComodification_0 8 rfl rfl)
theorem dJ21_checkForComodification_11 : decode cJ21_checkForComodification 11 = .ok (.if_icmp .eq 11, 3) := dk_159 0 11 (dk_at dksJ21_checkForComodification_0 11 rfl rfl)
theorem dJ21_checkForComodification_14 : decode cJ21_checkForComodification 14 = .ok (.new 52, 3) := dk_187 0 52 (dk_at dksJ21_checkForComodification_0 14 rfl rfl)
theorem dJ21_checkForComodification_17 : decode cJ21_checkForComodification 17 = .ok (.dup, 1) := dk_89 (dk_at dksJ21_checkForComodification_0 17 rfl rfl)
theorem dJ21_checkForComodification_18 : decode cJ21_checkForComodification 18 = .ok (.invokespecial 54, 3) := dk_183 0 54 (dk_at dksJ21_checkForComodification_0 18 rfl rfl)
theorem dJ21_checkForComodification_21 : decode cJ21_checkForComodification 21 = .ok (.athrow, 1) := dk_191 (dk_at dksJ21_checkForComodification_0 21 rfl rfl)
theorem dJ21_checkForComodification_22 : decode cJ21_checkForComodification 22 = .ok (.return_, 1) := dk_177 (dk_at dksJ21_checkForComodification_0 22 rfl rfl)
abbrev cJ21_remove : ByteArray := prog_36_method_4_code
def yJ21_remove : MethodName := ⟨RJ21, "remove", "()V"⟩
def dkwJ21_remove_3 : List UInt8 := [187, 0, 52, 89, 183, 0, 54, 191, 177]
abbrev dktJ21_remove_3 : List UInt8 := dkwJ21_remove_3 ++ []
def dkwJ21_remove_2 : List UInt8 := [100, 181, 0, 13, 42, 2, 181, 0, 17, 42, 42, 180, 0, 1, 180, 0, 20, 181, 0, 25, 167, 0, 12, 76]
abbrev dktJ21_remove_2 : List UInt8 := dkwJ21_remove_2 ++ dktJ21_remove_3
def dkwJ21_remove_1 : List UInt8 := [180, 0, 17, 182, 0, 49, 87, 42, 180, 0, 17, 42, 180, 0, 13, 162, 0, 13, 42, 89, 180, 0, 13, 4]
abbrev dktJ21_remove_1 : List UInt8 := dkwJ21_remove_1 ++ dktJ21_remove_2
def dkwJ21_remove_0 : List UInt8 := [42, 180, 0, 17, 156, 0, 11, 187, 0, 46, 89, 183, 0, 48, 191, 42, 182, 0, 32, 42, 180, 0, 1, 42]
abbrev dktJ21_remove_0 : List UInt8 := dkwJ21_remove_0 ++ dktJ21_remove_1
theorem dksJ21_remove_0 : cJ21_remove.data.toList.drop 0 = dktJ21_remove_0 := by decide +kernel
theorem dksJ21_remove_1 : cJ21_remove.data.toList.drop 24 = dktJ21_remove_1 := dk_seg dksJ21_remove_0 24 rfl rfl
theorem dksJ21_remove_2 : cJ21_remove.data.toList.drop 48 = dktJ21_remove_2 := dk_seg dksJ21_remove_1 24 rfl rfl
theorem dksJ21_remove_3 : cJ21_remove.data.toList.drop 72 = dktJ21_remove_3 := dk_seg dksJ21_remove_2 24 rfl rfl
theorem dJ21_remove_0 : decode cJ21_remove 0 = .ok (.aload_n 0, 1) := dk_42 (dk_at dksJ21_remove_0 0 rfl rfl)
theorem dJ21_remove_1 : decode cJ21_remove 1 = .ok (.getfield 17, 3) := dk_180 0 17 (dk_at dksJ21_remove_0 1 rfl rfl)
theorem dJ21_remove_4 : decode cJ21_remove 4 = .ok (.ifCond .ge 11, 3) := dk_156 0 11 (dk_at dksJ21_remove_0 4 rfl rfl)
theorem dJ21_remove_7 : decode cJ21_remove 7 = .ok (.new 46, 3) := dk_187 0 46 (dk_at dksJ21_remove_0 7 rfl rfl)
theorem dJ21_remove_10 : decode cJ21_remove 10 = .ok (.dup, 1) := dk_89 (dk_at dksJ21_remove_0 10 rfl rfl)
theorem dJ21_remove_11 : decode cJ21_remove 11 = .ok (.invokespecial 48, 3) := dk_183 0 48 (dk_at dksJ21_remove_0 11 rfl rfl)
theorem dJ21_remove_14 : decode cJ21_remove 14 = .ok (.athrow, 1) := dk_191 (dk_at dksJ21_remove_0 14 rfl rfl)
theorem dJ21_remove_15 : decode cJ21_remove 15 = .ok (.aload_n 0, 1) := dk_42 (dk_at dksJ21_remove_0 15 rfl rfl)
theorem dJ21_remove_16 : decode cJ21_remove 16 = .ok (.invokevirtual 32, 3) := dk_182 0 32 (dk_at dksJ21_remove_0 16 rfl rfl)
theorem dJ21_remove_19 : decode cJ21_remove 19 = .ok (.aload_n 0, 1) := dk_42 (dk_at dksJ21_remove_0 19 rfl rfl)
theorem dJ21_remove_20 : decode cJ21_remove 20 = .ok (.getfield 1, 3) := dk_180 0 1 (dk_at dksJ21_remove_0 20 rfl rfl)
theorem dJ21_remove_23 : decode cJ21_remove 23 = .ok (.aload_n 0, 1) := dk_42 (dk_at dksJ21_remove_0 23 rfl rfl)
theorem dJ21_remove_24 : decode cJ21_remove 24 = .ok (.getfield 17, 3) := dk_180 0 17 (dk_at dksJ21_remove_1 0 rfl rfl)
theorem dJ21_remove_27 : decode cJ21_remove 27 = .ok (.invokevirtual 49, 3) := dk_182 0 49 (dk_at dksJ21_remove_1 3 rfl rfl)
theorem dJ21_remove_30 : decode cJ21_remove 30 = .ok (.pop, 1) := dk_87 (dk_at dksJ21_remove_1 6 rfl rfl)
theorem dJ21_remove_31 : decode cJ21_remove 31 = .ok (.aload_n 0, 1) := dk_42 (dk_at dksJ21_remove_1 7 rfl rfl)
theorem dJ21_remove_32 : decode cJ21_remove 32 = .ok (.getfield 17, 3) := dk_180 0 17 (dk_at dksJ21_remove_1 8 rfl rfl)
theorem dJ21_remove_35 : decode cJ21_remove 35 = .ok (.aload_n 0, 1) := dk_42 (dk_at dksJ21_remove_1 11 rfl rfl)
theorem dJ21_remove_36 : decode cJ21_remove 36 = .ok (.getfield 13, 3) := dk_180 0 13 (dk_at dksJ21_remove_1 12 rfl rfl)
theorem dJ21_remove_39 : decode cJ21_remove 39 = .ok (.if_icmp .ge 13, 3) := dk_162 0 13 (dk_at dksJ21_remove_1 15 rfl rfl)
theorem dJ21_remove_42 : decode cJ21_remove 42 = .ok (.aload_n 0, 1) := dk_42 (dk_at dksJ21_remove_1 18 rfl rfl)
theorem dJ21_remove_43 : decode cJ21_remove 43 = .ok (.dup, 1) := dk_89 (dk_at dksJ21_remove_1 19 rfl rfl)
theorem dJ21_remove_44 : decode cJ21_remove 44 = .ok (.getfield 13, 3) := dk_180 0 13 (dk_at dksJ21_remove_1 20 rfl rfl)
theorem dJ21_remove_47 : decode cJ21_remove 47 = .ok (.iconst 1, 1) := dk_4 (dk_at dksJ21_remove_1 23 rfl rfl)
theorem dJ21_remove_48 : decode cJ21_remove 48 = .ok (.isub, 1) := dk_100 (dk_at dksJ21_remove_2 0 rfl rfl)
theorem dJ21_remove_49 : decode cJ21_remove 49 = .ok (.putfield 13, 3) := dk_181 0 13 (dk_at dksJ21_remove_2 1 rfl rfl)
theorem dJ21_remove_52 : decode cJ21_remove 52 = .ok (.aload_n 0, 1) := dk_42 (dk_at dksJ21_remove_2 4 rfl rfl)
theorem dJ21_remove_53 : decode cJ21_remove 53 = .ok (.iconst (-1), 1) := dk_2 (dk_at dksJ21_remove_2 5 rfl rfl)
theorem dJ21_remove_54 : decode cJ21_remove 54 = .ok (.putfield 17, 3) := dk_181 0 17 (dk_at dksJ21_remove_2 6 rfl rfl)
theorem dJ21_remove_57 : decode cJ21_remove 57 = .ok (.aload_n 0, 1) := dk_42 (dk_at dksJ21_remove_2 9 rfl rfl)
theorem dJ21_remove_58 : decode cJ21_remove 58 = .ok (.aload_n 0, 1) := dk_42 (dk_at dksJ21_remove_2 10 rfl rfl)
theorem dJ21_remove_59 : decode cJ21_remove 59 = .ok (.getfield 1, 3) := dk_180 0 1 (dk_at dksJ21_remove_2 11 rfl rfl)
theorem dJ21_remove_62 : decode cJ21_remove 62 = .ok (.getfield 20, 3) := dk_180 0 20 (dk_at dksJ21_remove_2 14 rfl rfl)
theorem dJ21_remove_65 : decode cJ21_remove 65 = .ok (.putfield 25, 3) := dk_181 0 25 (dk_at dksJ21_remove_2 17 rfl rfl)
theorem dJ21_remove_68 : decode cJ21_remove 68 = .ok (.goto 12, 3) := dk_167 0 12 (dk_at dksJ21_remove_2 20 rfl rfl)
theorem dJ21_remove_71 : decode cJ21_remove 71 = .ok (.astore_n 1, 1) := dk_76 (dk_at dksJ21_remove_2 23 rfl rfl)
theorem dJ21_remove_72 : decode cJ21_remove 72 = .ok (.new 52, 3) := dk_187 0 52 (dk_at dksJ21_remove_3 0 rfl rfl)
theorem dJ21_remove_75 : decode cJ21_remove 75 = .ok (.dup, 1) := dk_89 (dk_at dksJ21_remove_3 3 rfl rfl)
theorem dJ21_remove_76 : decode cJ21_remove 76 = .ok (.invokespecial 54, 3) := dk_183 0 54 (dk_at dksJ21_remove_3 4 rfl rfl)
theorem dJ21_remove_79 : decode cJ21_remove 79 = .ok (.athrow, 1) := dk_191 (dk_at dksJ21_remove_3 7 rfl rfl)
theorem dJ21_remove_80 : decode cJ21_remove 80 = .ok (.return_, 1) := dk_177 (dk_at dksJ21_remove_3 8 rfl rfl)
theorem q146 : (Jvm.Cond.initialized "java/util/AbstractList$Itr") ∈ lw_all := lw_g (lw_at lw_m1 29 rfl) rfl
theorem q248 : (Jvm.Cond.fieldLink "java/util/AbstractList$Itr" (20 : Nat) "java/util/AbstractList" "modCount" "I") ∈ lw_all := lw_g (lw_at lw_m1 131 rfl) rfl
theorem q1107 : (Jvm.Cond.instanceMethod ({ cls := "java/util/AbstractList$Itr", name := "hasNext", desc := "()Z" } : Jvm.MethodName)) ∈ lw_all := lw_g (lw_at lw_m5 30 rfl) rfl
theorem q1108 : (Jvm.Cond.publicMethod ({ cls := "java/util/AbstractList$Itr", name := "hasNext", desc := "()Z" } : Jvm.MethodName)) ∈ lw_tbl := lw_at lw_m5 31 rfl
theorem q1109 : (Jvm.Cond.code ({ cls := "java/util/AbstractList$Itr", name := "hasNext", desc := "()Z" } : Jvm.MethodName) prog_36_method_2_code (1 : Nat) (Option.some Jvm.ClassFile.FieldType.boolean)) ∈ lw_all := lw_g (lw_at lw_m5 32 rfl) rfl
theorem q1110 : (Jvm.Cond.methodLink "java/util/AbstractList$Itr" (28 : Nat) ({ cls := "java/util/AbstractList", name := "size", desc := "()I" } : Jvm.MethodName)) ∈ lw_all := lw_g (lw_at lw_m5 33 rfl) rfl
theorem q1125 : (Jvm.Cond.instanceMethod ({ cls := "java/util/AbstractList$Itr", name := "next", desc := "()Ljava/lang/Object;" } : Jvm.MethodName)) ∈ lw_all := lw_g (lw_at lw_m5 48 rfl) rfl
theorem q1126 : (Jvm.Cond.publicMethod ({ cls := "java/util/AbstractList$Itr", name := "next", desc := "()Ljava/lang/Object;" } : Jvm.MethodName)) ∈ lw_tbl := lw_at lw_m5 49 rfl
theorem q1127 : (Jvm.Cond.codeWith ({ cls := "java/util/AbstractList$Itr", name := "next", desc := "()Ljava/lang/Object;" } : Jvm.MethodName) prog_36_method_3_code (3 : Nat) (Option.some (Jvm.ClassFile.FieldType.object "java/lang/Object")) [((4 : Nat), (31 : Nat), (32 : Nat), (39 : Nat))]) ∈ lw_all := lw_g (lw_at lw_m5 50 rfl) rfl
theorem q1128 : (Jvm.Cond.methodLink "java/util/AbstractList$Itr" (32 : Nat) ({ cls := "java/util/AbstractList$Itr", name := "checkForComodification", desc := "()V" } : Jvm.MethodName)) ∈ lw_all := lw_g (lw_at lw_m5 51 rfl) rfl
theorem q1129 : (Jvm.Cond.instanceMethod ({ cls := "java/util/AbstractList$Itr", name := "checkForComodification", desc := "()V" } : Jvm.MethodName)) ∈ lw_all := lw_g (lw_at lw_m5 52 rfl) rfl
theorem q1130 : (Jvm.Cond.sameMethod "java/util/AbstractList$Itr" "java/util/AbstractList$Itr" "checkForComodification" "()V") ∈ lw_all := lw_g (lw_at lw_m5 53 rfl) rfl
theorem q1132 : (Jvm.Cond.code ({ cls := "java/util/AbstractList$Itr", name := "checkForComodification", desc := "()V" } : Jvm.MethodName) prog_36_method_5_code (1 : Nat) (Option.none : Option Jvm.ClassFile.FieldType)) ∈ lw_all := lw_g (lw_at lw_m5 55 rfl) rfl
theorem q1133 : (Jvm.Cond.methodLink "java/util/AbstractList$Itr" (35 : Nat) ({ cls := "java/util/AbstractList", name := "get", desc := "(I)Ljava/lang/Object;" } : Jvm.MethodName)) ∈ lw_all := lw_g (lw_at lw_m5 56 rfl) rfl
theorem q1137 : (Jvm.Cond.classLink "java/util/AbstractList$Itr" (41 : Nat) "java/util/NoSuchElementException") ∈ lw_all := lw_g (lw_at lw_m5 60 rfl) rfl
theorem q1148 : (Jvm.Cond.methodLink "java/util/AbstractList$Itr" (43 : Nat) ({ cls := "java/util/NoSuchElementException", name := "<init>", desc := "(Ljava/lang/Throwable;)V" } : Jvm.MethodName)) ∈ lw_all := lw_g (lw_at lw_m5 71 rfl) rfl
theorem q1406 : (Jvm.Cond.instanceMethod ({ cls := "java/util/AbstractList$Itr", name := "remove", desc := "()V" } : Jvm.MethodName)) ∈ lw_all := lw_g (lw_at lw_m6 89 rfl) rfl
theorem q1407 : (Jvm.Cond.publicMethod ({ cls := "java/util/AbstractList$Itr", name := "remove", desc := "()V" } : Jvm.MethodName)) ∈ lw_tbl := lw_at lw_m6 90 rfl
theorem q1408 : (Jvm.Cond.codeWith ({ cls := "java/util/AbstractList$Itr", name := "remove", desc := "()V" } : Jvm.MethodName) prog_36_method_4_code (2 : Nat) (Option.none : Option Jvm.ClassFile.FieldType) [((19 : Nat), (68 : Nat), (71 : Nat), (39 : Nat))]) ∈ lw_all := lw_g (lw_at lw_m6 91 rfl) rfl
theorem q1409 : (Jvm.Cond.classLink "java/util/AbstractList$Itr" (46 : Nat) "java/lang/IllegalStateException") ∈ lw_all := lw_g (lw_at lw_m6 92 rfl) rfl
theorem q1418 : (Jvm.Cond.methodLink "java/util/AbstractList$Itr" (48 : Nat) ({ cls := "java/lang/IllegalStateException", name := "<init>", desc := "()V" } : Jvm.MethodName)) ∈ lw_all := lw_g (lw_at lw_m6 101 rfl) rfl
theorem q1424 : (Jvm.Cond.methodLink "java/util/AbstractList$Itr" (49 : Nat) ({ cls := "java/util/AbstractList", name := "remove", desc := "(I)Ljava/lang/Object;" } : Jvm.MethodName)) ∈ lw_all := lw_g (lw_at lw_m6 107 rfl) rfl
theorem q1435 : (Jvm.Cond.classLink "java/util/AbstractList$Itr" (52 : Nat) "java/util/ConcurrentModificationException") ∈ lw_all := lw_g (lw_at lw_m6 118 rfl) rfl
theorem q1437 : (Jvm.Cond.methodLink "java/util/AbstractList$Itr" (54 : Nat) ({ cls := "java/util/ConcurrentModificationException", name := "<init>", desc := "()V" } : Jvm.MethodName)) ∈ lw_all := lw_g (lw_at lw_m6 120 rfl) rfl
theorem q1518 : (Jvm.Cond.declares ({ cls := "java/util/AbstractList$Itr", name := "checkForComodification", desc := "()V" } : Jvm.MethodName)) ∈ lw_tbl := lw_at lw_m6 201 rfl
theorem q2376 : (Jvm.Cond.fieldLink "java/util/AbstractList$Itr" (1 : Nat) "java/util/AbstractList$Itr" "this$0" "Ljava/util/AbstractList;") ∈ lw_all := lw_g (lw_at lw_m10 99 rfl) rfl
theorem q2377 : (Jvm.Cond.fieldLink "java/util/AbstractList$Itr" (13 : Nat) "java/util/AbstractList$Itr" "cursor" "I") ∈ lw_all := lw_g (lw_at lw_m10 100 rfl) rfl
theorem q2378 : (Jvm.Cond.fieldLink "java/util/AbstractList$Itr" (17 : Nat) "java/util/AbstractList$Itr" "lastRet" "I") ∈ lw_all := lw_g (lw_at lw_m10 101 rfl) rfl
theorem q2379 : (Jvm.Cond.fieldLink "java/util/AbstractList$Itr" (25 : Nat) "java/util/AbstractList$Itr" "expectedModCount" "I") ∈ lw_all := lw_g (lw_at lw_m10 102 rfl) rfl
/-! java/util/AbstractList$ListItr -/
set_option maxRecDepth 100000
def RJ22 : String := "java/util/AbstractList$ListItr"
abbrev cJ22_previous : ByteArray := prog_37_method_3_code
def yJ22_previous : MethodName := ⟨RJ22, "previous", "()Ljava/lang/Object;"⟩
def dkwJ22_previous_1 : List UInt8 := [181, 0, 13, 181, 0, 27, 44, 176, 76, 42, 182, 0, 17, 187, 0, 32, 89, 43, 183, 0, 34, 191]
abbrev dktJ22_previous_1 : List UInt8 := dkwJ22_previous_1 ++ []
def dkwJ22_previous_0 : List UInt8 := [42, 182, 0, 17, 42, 180, 0, 13, 4, 100, 60, 42, 180, 0, 1, 27, 182, 0, 21, 77, 42, 42, 27, 90]
abbrev dktJ22_previous_0 : List UInt8 := dkwJ22_previous_0 ++ dktJ22_previous_1
theorem dksJ22_previous_0 : cJ22_previous.data.toList.drop 0 = dktJ22_previous_0 := by decide +kernel
theorem dksJ22_previous_1 : cJ22_previous.data.toList.drop 24 = dktJ22_previous_1 := dk_seg dksJ22_previous_0 24 rfl rfl
theorem dJ22_previous_0 : decode cJ22_previous 0 = .ok (.aload_n 0, 1) := dk_42 (dk_at dksJ22_previous_0 0 rfl rfl)
theorem dJ22_previous_1 : decode cJ22_previous 1 = .ok (.invokevirtual 17, 3) := dk_182 0 17 (dk_at dksJ22_previous_0 1 rfl rfl)
theorem dJ22_previous_4 : decode cJ22_previous 4 = .ok (.aload_n 0, 1) := dk_42 (dk_at dksJ22_previous_0 4 rfl rfl)
theorem dJ22_previous_5 : decode cJ22_previous 5 = .ok (.getfield 13, 3) := dk_180 0 13 (dk_at dksJ22_previous_0 5 rfl rfl)
theorem dJ22_previous_8 : decode cJ22_previous 8 = .ok (.iconst 1, 1) := dk_4 (dk_at dksJ22_previous_0 8 rfl rfl)
theorem dJ22_previous_9 : decode cJ22_previous 9 = .ok (.isub, 1) := dk_100 (dk_at dksJ22_previous_0 9 rfl rfl)
theorem dJ22_previous_10 : decode cJ22_previous 10 = .ok (.istore_n 1, 1) := dk_60 (dk_at dksJ22_previous_0 10 rfl rfl)
theorem dJ22_previous_11 : decode cJ22_previous 11 = .ok (.aload_n 0, 1) := dk_42 (dk_at dksJ22_previous_0 11 rfl rfl)
theorem dJ22_previous_12 : decode cJ22_previous 12 = .ok (.getfield 1, 3) := dk_180 0 1 (dk_at dksJ22_previous_0 12 rfl rfl)
theorem dJ22_previous_15 : decode cJ22_previous 15 = .ok (.iload_n 1, 1) := dk_27 (dk_at dksJ22_previous_0 15 rfl rfl)
theorem dJ22_previous_16 : decode cJ22_previous 16 = .ok (.invokevirtual 21, 3) := dk_182 0 21 (dk_at dksJ22_previous_0 16 rfl rfl)
theorem dJ22_previous_19 : decode cJ22_previous 19 = .ok (.astore_n 2, 1) := dk_77 (dk_at dksJ22_previous_0 19 rfl rfl)
theorem dJ22_previous_20 : decode cJ22_previous 20 = .ok (.aload_n 0, 1) := dk_42 (dk_at dksJ22_previous_0 20 rfl rfl)
theorem dJ22_previous_21 : decode cJ22_previous 21 = .ok (.aload_n 0, 1) := dk_42 (dk_at dksJ22_previous_0 21 rfl rfl)
theorem dJ22_previous_22 : decode cJ22_previous 22 = .ok (.iload_n 1, 1) := dk_27 (dk_at dksJ22_previous_0 22 rfl rfl)
theorem dJ22_previous_23 : decode cJ22_previous 23 = .ok (.dup_x1, 1) := dk_90 (dk_at dksJ22_previous_0 23 rfl rfl)
theorem dJ22_previous_24 : decode cJ22_previous 24 = .ok (.putfield 13, 3) := dk_181 0 13 (dk_at dksJ22_previous_1 0 rfl rfl)
theorem dJ22_previous_27 : decode cJ22_previous 27 = .ok (.putfield 27, 3) := dk_181 0 27 (dk_at dksJ22_previous_1 3 rfl rfl)
theorem dJ22_previous_30 : decode cJ22_previous 30 = .ok (.aload_n 2, 1) := dk_44 (dk_at dksJ22_previous_1 6 rfl rfl)
theorem dJ22_previous_31 : decode cJ22_previous 31 = .ok (.areturn, 1) := dk_176 (dk_at dksJ22_previous_1 7 rfl rfl)
theorem dJ22_previous_32 : decode cJ22_previous 32 = .ok (.astore_n 1, 1) := dk_76 (dk_at dksJ22_previous_1 8 rfl rfl)
theorem dJ22_previous_33 : decode cJ22_previous 33 = .ok (.aload_n 0, 1) := dk_42 (dk_at dksJ22_previous_1 9 rfl rfl)
theorem dJ22_previous_34 : decode cJ22_previous 34 = .ok (.invokevirtual 17, 3) := dk_182 0 17 (dk_at dksJ22_previous_1 10 rfl rfl)
theorem dJ22_previous_37 : decode cJ22_previous 37 = .ok (.new 32, 3) := dk_187 0 32 (dk_at dksJ22_previous_1 13 rfl rfl)
theorem dJ22_previous_40 : decode cJ22_previous 40 = .ok (.dup, 1) := dk_89 (dk_at dksJ22_previous_1 16 rfl rfl)
theorem dJ22_previous_41 : decode cJ22_previous 41 = .ok (.aload_n 1, 1) := dk_43 (dk_at dksJ22_previous_1 17 rfl rfl)
theorem dJ22_previous_42 : decode cJ22_previous 42 = .ok (.invokespecial 34, 3) := dk_183 0 34 (dk_at dksJ22_previous_1 18 rfl rfl)
theorem dJ22_previous_45 : decode cJ22_previous 45 = .ok (.athrow, 1) := dk_191 (dk_at dksJ22_previous_1 21 rfl rfl)
abbrev cJ22_set : ByteArray := prog_37_method_6_code
def yJ22_set : MethodName := ⟨RJ22, "set", "(Ljava/lang/Object;)V"⟩
def dkwJ22_set_2 : List UInt8 := [187, 0, 51, 89, 183, 0, 53, 191, 177]
abbrev dktJ22_set_2 : List UInt8 := dkwJ22_set_2 ++ []
def dkwJ22_set_1 : List UInt8 := [180, 0, 27, 43, 182, 0, 41, 87, 42, 42, 180, 0, 1, 180, 0, 45, 181, 0, 48, 167, 0, 12, 77]
abbrev dktJ22_set_1 : List UInt8 := dkwJ22_set_1 ++ dktJ22_set_2
def dkwJ22_set_0 : List UInt8 := [42, 180, 0, 27, 156, 0, 11, 187, 0, 37, 89, 183, 0, 39, 191, 42, 182, 0, 17, 42, 180, 0, 1, 42]
abbrev dktJ22_set_0 : List UInt8 := dkwJ22_set_0 ++ dktJ22_set_1
theorem dksJ22_set_0 : cJ22_set.data.toList.drop 0 = dktJ22_set_0 := by decide +kernel
theorem dksJ22_set_1 : cJ22_set.data.toList.drop 24 = dktJ22_set_1 := dk_seg dksJ22_set_0 24 rfl rfl
theorem dksJ22_set_2 : cJ22_set.data.toList.drop 47 = dktJ22_set_2 := dk_seg dksJ22_set_1 23 rfl rfl
theorem dJ22_set_0 : decode cJ22_set 0 = .ok (.aload_n 0, 1) := dk_42 (dk_at dksJ22_set_0 0 rfl rfl)
theorem dJ22_set_1 : decode cJ22_set 1 = .ok (.getfield 27, 3) := dk_180 0 27 (dk_at dksJ22_set_0 1 rfl rfl)
theorem dJ22_set_4 : decode cJ22_set 4 = .ok (.ifCond .ge 11, 3) := dk_156 0 11 (dk_at dksJ22_set_0 4 rfl rfl)
theorem dJ22_set_7 : decode cJ22_set 7 = .ok (.new 37, 3) := dk_187 0 37 (dk_at dksJ22_set_0 7 rfl rfl)
theorem dJ22_set_10 : decode cJ22_set 10 = .ok (.dup, 1) := dk_89 (dk_at dksJ22_set_0 10 rfl rfl)
theorem dJ22_set_11 : decode cJ22_set 11 = .ok (.invokespecial 39, 3) := dk_183 0 39 (dk_at dksJ22_set_0 11 rfl rfl)
theorem dJ22_set_14 : decode cJ22_set 14 = .ok (.athrow, 1) := dk_191 (dk_at dksJ22_set_0 14 rfl rfl)
theorem dJ22_set_15 : decode cJ22_set 15 = .ok (.aload_n 0, 1) := dk_42 (dk_at dksJ22_set_0 15 rfl rfl)
theorem dJ22_set_16 : decode cJ22_set 16 = .ok (.invokevirtual 17, 3) := dk_182 0 17 (dk_at dksJ22_set_0 16 rfl rfl)
theorem dJ22_set_19 : decode cJ22_set 19 = .ok (.aload_n 0, 1) := dk_42 (dk_at dksJ22_set_0 19 rfl rfl)
theorem dJ22_set_20 : decode cJ22_set 20 = .ok (.getfield 1, 3) := dk_180 0 1 (dk_at dksJ22_set_0 20 rfl rfl)
theorem dJ22_set_23 : decode cJ22_set 23 = .ok (.aload_n 0, 1) := dk_42 (dk_at dksJ22_set_0 23 rfl rfl)
theorem dJ22_set_24 : decode cJ22_set 24 = .ok (.getfield 27, 3) := dk_180 0 27 (dk_at dksJ22_set_1 0 rfl rfl)
theorem dJ22_set_27 : decode cJ22_set 27 = .ok (.aload_n 1, 1) := dk_43 (dk_at dksJ22_set_1 3 rfl rfl)
theorem dJ22_set_28 : decode cJ22_set 28 = .ok (.invokevirtual 41, 3) := dk_182 0 41 (dk_at dksJ22_set_1 4 rfl rfl)
theorem dJ22_set_31 : decode cJ22_set 31 = .ok (.pop, 1) := dk_87 (dk_at dksJ22_set_1 7 rfl rfl)
theorem dJ22_set_32 : decode cJ22_set 32 = .ok (.aload_n 0, 1) := dk_42 (dk_at dksJ22_set_1 8 rfl rfl)
theorem dJ22_set_33 : decode cJ22_set 33 = .ok (.aload_n 0, 1) := dk_42 (dk_at dksJ22_set_1 9 rfl rfl)
theorem dJ22_set_34 : decode cJ22_set 34 = .ok (.getfield 1, 3) := dk_180 0 1 (dk_at dksJ22_set_1 10 rfl rfl)
theorem dJ22_set_37 : decode cJ22_set 37 = .ok (.getfield 45, 3) := dk_180 0 45 (dk_at dksJ22_set_1 13 rfl rfl)
theorem dJ22_set_40 : decode cJ22_set 40 = .ok (.putfield 48, 3) := dk_181 0 48 (dk_at dksJ22_set_1 16 rfl rfl)
theorem dJ22_set_43 : decode cJ22_set 43 = .ok (.goto 12, 3) := dk_167 0 12 (dk_at dksJ22_set_1 19 rfl rfl)
theorem dJ22_set_46 : decode cJ22_set 46 = .ok (.astore_n 2, 1) := dk_77 (dk_at dksJ22_set_1 22 rfl rfl)
theorem dJ22_set_47 : decode cJ22_set 47 = .ok (.new 51, 3) := dk_187 0 51 (dk_at dksJ22_set_2 0 rfl rfl)
theorem dJ22_set_50 : decode cJ22_set 50 = .ok (.dup, 1) := dk_89 (dk_at dksJ22_set_2 3 rfl rfl)
theorem dJ22_set_51 : decode cJ22_set 51 = .ok (.invokespecial 53, 3) := dk_183 0 53 (dk_at dksJ22_set_2 4 rfl rfl)
theorem dJ22_set_54 : decode cJ22_set 54 = .ok (.athrow, 1) := dk_191 (dk_at dksJ22_set_2 7 rfl rfl)
theorem dJ22_set_55 : decode cJ22_set 55 = .ok (.return_, 1) := dk_177 (dk_at dksJ22_set_2 8 rfl rfl)
theorem q147 : (Jvm.Cond.initialized "java/util/AbstractList$ListItr") ∈ lw_all := lw_g (lw_at lw_m1 30 rfl) rfl
theorem q250 : (Jvm.Cond.fieldLink "java/util/AbstractList$ListItr" (45 : Nat) "java/util/AbstractList" "modCount" "I") ∈ lw_all := lw_g (lw_at lw_m1 133 rfl) rfl
theorem q1104 : (Jvm.Cond.castable "java/util/AbstractList$ListItr" "java/util/Iterator") ∈ lw_tbl := lw_at lw_m5 27 rfl
theorem q1105 : (Jvm.Cond.selects "java/util/AbstractList$ListItr" ({ cls := "java/util/Iterator", name := "hasNext", desc := "()Z" } : Jvm.MethodName) ({ cls := "java/util/AbstractList$Itr", name := "hasNext", desc := "()Z" } : Jvm.MethodName)) ∈ lw_all := lw_g (lw_at lw_m5 28 rfl) rfl
theorem q1106 : (Jvm.Cond.unhidden "java/util/AbstractList$ListItr" "hasNext" "()Z") ∈ lw_tbl := lw_at lw_m5 29 rfl
theorem q1123 : (Jvm.Cond.selects "java/util/AbstractList$ListItr" ({ cls := "java/util/Iterator", name := "next", desc := "()Ljava/lang/Object;" } : Jvm.MethodName) ({ cls := "java/util/AbstractList$Itr", name := "next", desc := "()Ljava/lang/Object;" } : Jvm.MethodName)) ∈ lw_all := lw_g (lw_at lw_m5 46 rfl) rfl
theorem q1124 : (Jvm.Cond.unhidden "java/util/AbstractList$ListItr" "next" "()Ljava/lang/Object;") ∈ lw_tbl := lw_at lw_m5 47 rfl
theorem q1131 : (Jvm.Cond.selects "java/util/AbstractList$ListItr" ({ cls := "java/util/AbstractList$Itr", name := "checkForComodification", desc := "()V" } : Jvm.MethodName) ({ cls := "java/util/AbstractList$Itr", name := "checkForComodification", desc := "()V" } : Jvm.MethodName)) ∈ lw_all := lw_g (lw_at lw_m5 54 rfl) rfl
theorem q1180 : (Jvm.Cond.selects "java/util/AbstractList$ListItr" ({ cls := "java/lang/Object", name := "getClass", desc := "()Ljava/lang/Class;" } : Jvm.MethodName) ({ cls := "java/lang/Object", name := "getClass", desc := "()Ljava/lang/Class;" } : Jvm.MethodName)) ∈ lw_all := lw_g (lw_at lw_m5 103 rfl) rfl
theorem q1404 : (Jvm.Cond.selects "java/util/AbstractList$ListItr" ({ cls := "java/util/Iterator", name := "remove", desc := "()V" } : Jvm.MethodName) ({ cls := "java/util/AbstractList$Itr", name := "remove", desc := "()V" } : Jvm.MethodName)) ∈ lw_all := lw_g (lw_at lw_m6 87 rfl) rfl
theorem q1405 : (Jvm.Cond.unhidden "java/util/AbstractList$ListItr" "remove" "()V") ∈ lw_tbl := lw_at lw_m6 88 rfl
theorem q1503 : (Jvm.Cond.castable "java/util/AbstractList$ListItr" "java/util/ListIterator") ∈ lw_tbl := lw_at lw_m6 186 rfl
theorem q1504 : (Jvm.Cond.selects "java/util/AbstractList$ListItr" ({ cls := "java/util/ListIterator", name := "next", desc := "()Ljava/lang/Object;" } : Jvm.MethodName) ({ cls := "java/util/AbstractList$Itr", name := "next", desc := "()Ljava/lang/Object;" } : Jvm.MethodName)) ∈ lw_all := lw_g (lw_at lw_m6 187 rfl) rfl
theorem q1511 : (Jvm.Cond.selects "java/util/AbstractList$ListItr" ({ cls := "java/util/ListIterator", name := "previous", desc := "()Ljava/lang/Object;" } : Jvm.MethodName) ({ cls := "java/util/AbstractList$ListItr", name := "previous", desc := "()Ljava/lang/Object;" } : Jvm.MethodName)) ∈ lw_all := lw_g (lw_at lw_m6 194 rfl) rfl
theorem q1512 : (Jvm.Cond.unhidden "java/util/AbstractList$ListItr" "previous" "()Ljava/lang/Object;") ∈ lw_tbl := lw_at lw_m6 195 rfl
theorem q1513 : (Jvm.Cond.instanceMethod ({ cls := "java/util/AbstractList$ListItr", name := "previous", desc := "()Ljava/lang/Object;" } : Jvm.MethodName)) ∈ lw_all := lw_g (lw_at lw_m6 196 rfl) rfl
theorem q1514 : (Jvm.Cond.publicMethod ({ cls := "java/util/AbstractList$ListItr", name := "previous", desc := "()Ljava/lang/Object;" } : Jvm.MethodName)) ∈ lw_tbl := lw_at lw_m6 197 rfl
theorem q1515 : (Jvm.Cond.codeWith ({ cls := "java/util/AbstractList$ListItr", name := "previous", desc := "()Ljava/lang/Object;" } : Jvm.MethodName) prog_37_method_3_code (3 : Nat) (Option.some (Jvm.ClassFile.FieldType.object "java/lang/Object")) [((4 : Nat), (31 : Nat), (32 : Nat), (30 : Nat))]) ∈ lw_all := lw_g (lw_at lw_m6 198 rfl) rfl
theorem q1516 : (Jvm.Cond.methodLink "java/util/AbstractList$ListItr" (17 : Nat) ({ cls := "java/util/AbstractList$ListItr", name := "checkForComodification", desc := "()V" } : Jvm.MethodName)) ∈ lw_all := lw_g (lw_at lw_m6 199 rfl) rfl
theorem q1517 : (Jvm.Cond.sameMethod "java/util/AbstractList$ListItr" "java/util/AbstractList$Itr" "checkForComodification" "()V") ∈ lw_all := lw_g (lw_at lw_m6 200 rfl) rfl
theorem q1519 : (Jvm.Cond.selects "java/util/AbstractList$ListItr" ({ cls := "java/util/AbstractList$ListItr", name := "checkForComodification", desc := "()V" } : Jvm.MethodName) ({ cls := "java/util/AbstractList$Itr", name := "checkForComodification", desc := "()V" } : Jvm.MethodName)) ∈ lw_all := lw_g (lw_at lw_m6 202 rfl) rfl
theorem q1520 : (Jvm.Cond.methodLink "java/util/AbstractList$ListItr" (21 : Nat) ({ cls := "java/util/AbstractList", name := "get", desc := "(I)Ljava/lang/Object;" } : Jvm.MethodName)) ∈ lw_all := lw_g (lw_at lw_m6 203 rfl) rfl
theorem q1521 : (Jvm.Cond.classLink "java/util/AbstractList$ListItr" (32 : Nat) "java/util/NoSuchElementException") ∈ lw_all := lw_g (lw_at lw_m6 204 rfl) rfl
theorem q1522 : (Jvm.Cond.methodLink "java/util/AbstractList$ListItr" (34 : Nat) ({ cls := "java/util/NoSuchElementException", name := "<init>", desc := "(Ljava/lang/Throwable;)V" } : Jvm.MethodName)) ∈ lw_all := lw_g (lw_at lw_m6 205 rfl) rfl
theorem q1536 : (Jvm.Cond.selects "java/util/AbstractList$ListItr" ({ cls := "java/util/ListIterator", name := "set", desc := "(Ljava/lang/Object;)V" } : Jvm.MethodName) ({ cls := "java/util/AbstractList$ListItr", name := "set", desc := "(Ljava/lang/Object;)V" } : Jvm.MethodName)) ∈ lw_all := lw_g (lw_at lw_m6 219 rfl) rfl
theorem q1537 : (Jvm.Cond.unhidden "java/util/AbstractList$ListItr" "set" "(Ljava/lang/Object;)V") ∈ lw_tbl := lw_at lw_m6 220 rfl
theorem q1538 : (Jvm.Cond.instanceMethod ({ cls := "java/util/AbstractList$ListItr", name := "set", desc := "(Ljava/lang/Object;)V" } : Jvm.MethodName)) ∈ lw_all := lw_g (lw_at lw_m6 221 rfl) rfl
theorem q1539 : (Jvm.Cond.publicMethod ({ cls := "java/util/AbstractList$ListItr", name := "set", desc := "(Ljava/lang/Object;)V" } : Jvm.MethodName)) ∈ lw_tbl := lw_at lw_m6 222 rfl
theorem q1540 : (Jvm.Cond.codeWith ({ cls := "java/util/AbstractList$ListItr", name := "set", desc := "(Ljava/lang/Object;)V" } : Jvm.MethodName) prog_37_method_6_code (3 : Nat) (Option.none : Option Jvm.ClassFile.FieldType) [((19 : Nat), (43 : Nat), (46 : Nat), (30 : Nat))]) ∈ lw_all := lw_g (lw_at lw_m6 223 rfl) rfl
theorem q1541 : (Jvm.Cond.classLink "java/util/AbstractList$ListItr" (37 : Nat) "java/lang/IllegalStateException") ∈ lw_all := lw_g (lw_at lw_m6 224 rfl) rfl
theorem q1542 : (Jvm.Cond.methodLink "java/util/AbstractList$ListItr" (39 : Nat) ({ cls := "java/lang/IllegalStateException", name := "<init>", desc := "()V" } : Jvm.MethodName)) ∈ lw_all := lw_g (lw_at lw_m6 225 rfl) rfl
theorem q1543 : (Jvm.Cond.methodLink "java/util/AbstractList$ListItr" (41 : Nat) ({ cls := "java/util/AbstractList", name := "set", desc := "(ILjava/lang/Object;)Ljava/lang/Object;" } : Jvm.MethodName)) ∈ lw_all := lw_g (lw_at lw_m6 226 rfl) rfl
theorem q1548 : (Jvm.Cond.classLink "java/util/AbstractList$ListItr" (51 : Nat) "java/util/ConcurrentModificationException") ∈ lw_all := lw_g (lw_at lw_m6 231 rfl) rfl
theorem q1549 : (Jvm.Cond.methodLink "java/util/AbstractList$ListItr" (53 : Nat) ({ cls := "java/util/ConcurrentModificationException", name := "<init>", desc := "()V" } : Jvm.MethodName)) ∈ lw_all := lw_g (lw_at lw_m6 232 rfl) rfl
theorem q2356 : (Jvm.Cond.castable "java/util/AbstractList$ListItr" "java/lang/Object") ∈ lw_tbl := lw_at lw_m10 79 rfl
theorem q2375 : (Jvm.Cond.fieldLink "java/util/AbstractList$ListItr" (1 : Nat) "java/util/AbstractList$ListItr" "this$0" "Ljava/util/AbstractList;") ∈ lw_all := lw_g (lw_at lw_m10 98 rfl) rfl
theorem q2380 : (Jvm.Cond.fieldLink "java/util/AbstractList$ListItr" (13 : Nat) "java/util/AbstractList$ListItr" "cursor" "I") ∈ lw_all := lw_g (lw_at lw_m10 103 rfl) rfl
theorem q2381 : (Jvm.Cond.sameField "java/util/AbstractList$ListItr" "java/util/AbstractList$Itr" "cursor" "I") ∈ lw_all := lw_g (lw_at lw_m10 104 rfl) rfl
theorem q2382 : (Jvm.Cond.fieldLink "java/util/AbstractList$ListItr" (27 : Nat) "java/util/AbstractList$ListItr" "lastRet" "I") ∈ lw_all := lw_g (lw_at lw_m10 105 rfl) rfl
theorem q2383 : (Jvm.Cond.sameField "java/util/AbstractList$ListItr" "java/util/AbstractList$Itr" "lastRet" "I") ∈ lw_all := lw_g (lw_at lw_m10 106 rfl) rfl
theorem q2384 : (Jvm.Cond.fieldLink "java/util/AbstractList$ListItr" (48 : Nat) "java/util/AbstractList$ListItr" "expectedModCount" "I") ∈ lw_all := lw_g (lw_at lw_m10 107 rfl) rfl
theorem q2385 : (Jvm.Cond.sameField "java/util/AbstractList$ListItr" "java/util/AbstractList$Itr" "expectedModCount" "I") ∈ lw_all := lw_g (lw_at lw_m10 108 rfl) rfl
/-! java/util/LinkedList$ListItr -/
set_option maxRecDepth 100000
def RJ23 : String := "java/util/LinkedList$ListItr"
def TJ23 : u_T := fun k => match k with
  | 0 => ("java/util/LinkedList$ListItr", "lastReturned", "Ljava/util/LinkedList$Node;", false)
  | 1 => ("java/util/LinkedList$ListItr", "next", "Ljava/util/LinkedList$Node;", false)
  | 2 => ("java/util/LinkedList$ListItr", "nextIndex", "I", false)
  | 3 => ("java/util/LinkedList$ListItr", "expectedModCount", "I", false)
  | _ => ("java/util/LinkedList$ListItr", "this$0", "Ljava/util/LinkedList;", true)
def tyJ23 : Nat → FieldType := fun k => match k with
  | 0 => .object "java/util/LinkedList$Node"
  | 1 => .object "java/util/LinkedList$Node"
  | 2 => .int
  | 3 => .int
  | _ => .object "java/util/LinkedList"
abbrev wsJ230 : List Cond := u_ws RJ23 TJ23 5
theorem nmJ23 : ∀ a, a < 5 → ∀ b, b < 5 → a ≠ b → (TJ23 a).2.1 ≠ (TJ23 b).2.1 := by decide +kernel
theorem tyJ23_ok : ∀ k, k < 5 → parseFieldDescriptor (TJ23 k).2.2.1 = some (tyJ23 k) := by decide +kernel
abbrev cJ23_init : ByteArray := prog_49_method_1_code
def yJ23_init : MethodName := ⟨RJ23, "<init>", "(Ljava/util/LinkedList;I)V"⟩
def dkwJ23_init_1 : List UInt8 := [180, 0, 22, 160, 0, 7, 1, 167, 0, 8, 43, 28, 182, 0, 25, 181, 0, 29, 42, 28, 181, 0, 33, 177]
abbrev dktJ23_init_1 : List UInt8 := dkwJ23_init_1 ++ []
def dkwJ23_init_0 : List UInt8 := [42, 43, 181, 0, 1, 42, 183, 0, 7, 42, 42, 180, 0, 1, 180, 0, 13, 181, 0, 19, 42, 28, 43]
abbrev dktJ23_init_0 : List UInt8 := dkwJ23_init_0 ++ dktJ23_init_1
theorem dksJ23_init_0 : cJ23_init.data.toList.drop 0 = dktJ23_init_0 := by decide +kernel
theorem dksJ23_init_1 : cJ23_init.data.toList.drop 23 = dktJ23_init_1 := dk_seg dksJ23_init_0 23 rfl rfl
theorem dJ23_init_0 : decode cJ23_init 0 = .ok (.aload_n 0, 1) := dk_42 (dk_at dksJ23_init_0 0 rfl rfl)
theorem dJ23_init_1 : decode cJ23_init 1 = .ok (.aload_n 1, 1) := dk_43 (dk_at dksJ23_init_0 1 rfl rfl)
theorem dJ23_init_2 : decode cJ23_init 2 = .ok (.putfield 1, 3) := dk_181 0 1 (dk_at dksJ23_init_0 2 rfl rfl)
theorem dJ23_init_5 : decode cJ23_init 5 = .ok (.aload_n 0, 1) := dk_42 (dk_at dksJ23_init_0 5 rfl rfl)
theorem dJ23_init_6 : decode cJ23_init 6 = .ok (.invokespecial 7, 3) := dk_183 0 7 (dk_at dksJ23_init_0 6 rfl rfl)
theorem dJ23_init_9 : decode cJ23_init 9 = .ok (.aload_n 0, 1) := dk_42 (dk_at dksJ23_init_0 9 rfl rfl)
theorem dJ23_init_10 : decode cJ23_init 10 = .ok (.aload_n 0, 1) := dk_42 (dk_at dksJ23_init_0 10 rfl rfl)
theorem dJ23_init_11 : decode cJ23_init 11 = .ok (.getfield 1, 3) := dk_180 0 1 (dk_at dksJ23_init_0 11 rfl rfl)
theorem dJ23_init_14 : decode cJ23_init 14 = .ok (.getfield 13, 3) := dk_180 0 13 (dk_at dksJ23_init_0 14 rfl rfl)
theorem dJ23_init_17 : decode cJ23_init 17 = .ok (.putfield 19, 3) := dk_181 0 19 (dk_at dksJ23_init_0 17 rfl rfl)
theorem dJ23_init_20 : decode cJ23_init 20 = .ok (.aload_n 0, 1) := dk_42 (dk_at dksJ23_init_0 20 rfl rfl)
theorem dJ23_init_21 : decode cJ23_init 21 = .ok (.iload_n 2, 1) := dk_28 (dk_at dksJ23_init_0 21 rfl rfl)
theorem dJ23_init_22 : decode cJ23_init 22 = .ok (.aload_n 1, 1) := dk_43 (dk_at dksJ23_init_0 22 rfl rfl)
theorem dJ23_init_23 : decode cJ23_init 23 = .ok (.getfield 22, 3) := dk_180 0 22 (dk_at dksJ23_init_1 0 rfl rfl)
theorem dJ23_init_26 : decode cJ23_init 26 = .ok (.if_icmp .ne 7, 3) := dk_160 0 7 (dk_at dksJ23_init_1 3 rfl rfl)
theorem dJ23_init_29 : decode cJ23_init 29 = .ok (.aconst_null, 1) := dk_1 (dk_at dksJ23_init_1 6 rfl rfl)
theorem dJ23_init_30 : decode cJ23_init 30 = .ok (.goto 8, 3) := dk_167 0 8 (dk_at dksJ23_init_1 7 rfl rfl)
theorem dJ23_init_33 : decode cJ23_init 33 = .ok (.aload_n 1, 1) := dk_43 (dk_at dksJ23_init_1 10 rfl rfl)
theorem dJ23_init_34 : decode cJ23_init 34 = .ok (.iload_n 2, 1) := dk_28 (dk_at dksJ23_init_1 11 rfl rfl)
theorem dJ23_init_35 : decode cJ23_init 35 = .ok (.invokevirtual 25, 3) := dk_182 0 25 (dk_at dksJ23_init_1 12 rfl rfl)
theorem dJ23_init_38 : decode cJ23_init 38 = .ok (.putfield 29, 3) := dk_181 0 29 (dk_at dksJ23_init_1 15 rfl rfl)
theorem dJ23_init_41 : decode cJ23_init 41 = .ok (.aload_n 0, 1) := dk_42 (dk_at dksJ23_init_1 18 rfl rfl)
theorem dJ23_init_42 : decode cJ23_init 42 = .ok (.iload_n 2, 1) := dk_28 (dk_at dksJ23_init_1 19 rfl rfl)
theorem dJ23_init_43 : decode cJ23_init 43 = .ok (.putfield 33, 3) := dk_181 0 33 (dk_at dksJ23_init_1 20 rfl rfl)
theorem dJ23_init_46 : decode cJ23_init 46 = .ok (.return_, 1) := dk_177 (dk_at dksJ23_init_1 23 rfl rfl)
abbrev cJ23_hasNext : ByteArray := prog_49_method_2_code
def yJ23_hasNext : MethodName := ⟨RJ23, "hasNext", "()Z"⟩
def dkwJ23_hasNext_0 : List UInt8 := [42, 180, 0, 33, 42, 180, 0, 1, 180, 0, 22, 162, 0, 7, 4, 167, 0, 4, 3, 172]
abbrev dktJ23_hasNext_0 : List UInt8 := dkwJ23_hasNext_0 ++ []
theorem dksJ23_hasNext_0 : cJ23_hasNext.data.toList.drop 0 = dktJ23_hasNext_0 := by decide +kernel
theorem dJ23_hasNext_0 : decode cJ23_hasNext 0 = .ok (.aload_n 0, 1) := dk_42 (dk_at dksJ23_hasNext_0 0 rfl rfl)
theorem dJ23_hasNext_1 : decode cJ23_hasNext 1 = .ok (.getfield 33, 3) := dk_180 0 33 (dk_at dksJ23_hasNext_0 1 rfl rfl)
theorem dJ23_hasNext_4 : decode cJ23_hasNext 4 = .ok (.aload_n 0, 1) := dk_42 (dk_at dksJ23_hasNext_0 4 rfl rfl)
theorem dJ23_hasNext_5 : decode cJ23_hasNext 5 = .ok (.getfield 1, 3) := dk_180 0 1 (dk_at dksJ23_hasNext_0 5 rfl rfl)
theorem dJ23_hasNext_8 : decode cJ23_hasNext 8 = .ok (.getfield 22, 3) := dk_180 0 22 (dk_at dksJ23_hasNext_0 8 rfl rfl)
theorem dJ23_hasNext_11 : decode cJ23_hasNext 11 = .ok (.if_icmp .ge 7, 3) := dk_162 0 7 (dk_at dksJ23_hasNext_0 11 rfl rfl)
theorem dJ23_hasNext_14 : decode cJ23_hasNext 14 = .ok (.iconst 1, 1) := dk_4 (dk_at dksJ23_hasNext_0 14 rfl rfl)
theorem dJ23_hasNext_15 : decode cJ23_hasNext 15 = .ok (.goto 4, 3) := dk_167 0 4 (dk_at dksJ23_hasNext_0 15 rfl rfl)
theorem dJ23_hasNext_18 : decode cJ23_hasNext 18 = .ok (.iconst 0, 1) := dk_3 (dk_at dksJ23_hasNext_0 18 rfl rfl)
theorem dJ23_hasNext_19 : decode cJ23_hasNext 19 = .ok (.ireturn, 1) := dk_172 (dk_at dksJ23_hasNext_0 19 rfl rfl)
abbrev cJ23_next : ByteArray := prog_49_method_3_code
def yJ23_next : MethodName := ⟨RJ23, "next", "()Ljava/lang/Object;"⟩
def dkwJ23_next_2 : List UInt8 := [42, 180, 0, 46, 180, 0, 52, 176]
abbrev dktJ23_next_2 : List UInt8 := dkwJ23_next_2 ++ []
def dkwJ23_next_1 : List UInt8 := [181, 0, 46, 42, 42, 180, 0, 29, 180, 0, 49, 181, 0, 29, 42, 89, 180, 0, 33, 4, 96, 181, 0, 33]
abbrev dktJ23_next_1 : List UInt8 := dkwJ23_next_1 ++ dktJ23_next_2
def dkwJ23_next_0 : List UInt8 := [42, 182, 0, 36, 42, 182, 0, 39, 154, 0, 11, 187, 0, 43, 89, 183, 0, 45, 191, 42, 42, 180, 0, 29]
abbrev dktJ23_next_0 : List UInt8 := dkwJ23_next_0 ++ dktJ23_next_1
theorem dksJ23_next_0 : cJ23_next.data.toList.drop 0 = dktJ23_next_0 := by decide +kernel
theorem dksJ23_next_1 : cJ23_next.data.toList.drop 24 = dktJ23_next_1 := dk_seg dksJ23_next_0 24 rfl rfl
theorem dksJ23_next_2 : cJ23_next.data.toList.drop 48 = dktJ23_next_2 := dk_seg dksJ23_next_1 24 rfl rfl
theorem dJ23_next_0 : decode cJ23_next 0 = .ok (.aload_n 0, 1) := dk_42 (dk_at dksJ23_next_0 0 rfl rfl)
theorem dJ23_next_1 : decode cJ23_next 1 = .ok (.invokevirtual 36, 3) := dk_182 0 36 (dk_at dksJ23_next_0 1 rfl rfl)
theorem dJ23_next_4 : decode cJ23_next 4 = .ok (.aload_n 0, 1) := dk_42 (dk_at dksJ23_next_0 4 rfl rfl)
theorem dJ23_next_5 : decode cJ23_next 5 = .ok (.invokevirtual 39, 3) := dk_182 0 39 (dk_at dksJ23_next_0 5 rfl rfl)
theorem dJ23_next_8 : decode cJ23_next 8 = .ok (.ifCond .ne 11, 3) := dk_154 0 11 (dk_at dksJ23_next_0 8 rfl rfl)
theorem dJ23_next_11 : decode cJ23_next 11 = .ok (.new 43, 3) := dk_187 0 43 (dk_at dksJ23_next_0 11 rfl rfl)
theorem dJ23_next_14 : decode cJ23_next 14 = .ok (.dup, 1) := dk_89 (dk_at dksJ23_next_0 14 rfl rfl)
theorem dJ23_next_15 : decode cJ23_next 15 = .ok (.invokespecial 45, 3) := dk_183 0 45 (dk_at dksJ23_next_0 15 rfl rfl)
theorem dJ23_next_18 : decode cJ23_next 18 = .ok (.athrow, 1) := dk_191 (dk_at dksJ23_next_0 18 rfl rfl)
theorem dJ23_next_19 : decode cJ23_next 19 = .ok (.aload_n 0, 1) := dk_42 (dk_at dksJ23_next_0 19 rfl rfl)
theorem dJ23_next_20 : decode cJ23_next 20 = .ok (.aload_n 0, 1) := dk_42 (dk_at dksJ23_next_0 20 rfl rfl)
theorem dJ23_next_21 : decode cJ23_next 21 = .ok (.getfield 29, 3) := dk_180 0 29 (dk_at dksJ23_next_0 21 rfl rfl)
theorem dJ23_next_24 : decode cJ23_next 24 = .ok (.putfield 46, 3) := dk_181 0 46 (dk_at dksJ23_next_1 0 rfl rfl)
theorem dJ23_next_27 : decode cJ23_next 27 = .ok (.aload_n 0, 1) := dk_42 (dk_at dksJ23_next_1 3 rfl rfl)
theorem dJ23_next_28 : decode cJ23_next 28 = .ok (.aload_n 0, 1) := dk_42 (dk_at dksJ23_next_1 4 rfl rfl)
theorem dJ23_next_29 : decode cJ23_next 29 = .ok (.getfield 29, 3) := dk_180 0 29 (dk_at dksJ23_next_1 5 rfl rfl)
theorem dJ23_next_32 : decode cJ23_next 32 = .ok (.getfield 49, 3) := dk_180 0 49 (dk_at dksJ23_next_1 8 rfl rfl)
theorem dJ23_next_35 : decode cJ23_next 35 = .ok (.putfield 29, 3) := dk_181 0 29 (dk_at dksJ23_next_1 11 rfl rfl)
theorem dJ23_next_38 : decode cJ23_next 38 = .ok (.aload_n 0, 1) := dk_42 (dk_at dksJ23_next_1 14 rfl rfl)
theorem dJ23_next_39 : decode cJ23_next 39 = .ok (.dup, 1) := dk_89 (dk_at dksJ23_next_1 15 rfl rfl)
theorem dJ23_next_40 : decode cJ23_next 40 = .ok (.getfield 33, 3) := dk_180 0 33 (dk_at dksJ23_next_1 16 rfl rfl)
theorem dJ23_next_43 : decode cJ23_next 43 = .ok (.iconst 1, 1) := dk_4 (dk_at dksJ23_next_1 19 rfl rfl)
theorem dJ23_next_44 : decode cJ23_next 44 = .ok (.iadd, 1) := dk_96 (dk_at dksJ23_next_1 20 rfl rfl)
theorem dJ23_next_45 : decode cJ23_next 45 = .ok (.putfield 33, 3) := dk_181 0 33 (dk_at dksJ23_next_1 21 rfl rfl)
theorem dJ23_next_48 : decode cJ23_next 48 = .ok (.aload_n 0, 1) := dk_42 (dk_at dksJ23_next_2 0 rfl rfl)
theorem dJ23_next_49 : decode cJ23_next 49 = .ok (.getfield 46, 3) := dk_180 0 46 (dk_at dksJ23_next_2 1 rfl rfl)
theorem dJ23_next_52 : decode cJ23_next 52 = .ok (.getfield 52, 3) := dk_180 0 52 (dk_at dksJ23_next_2 4 rfl rfl)
theorem dJ23_next_55 : decode cJ23_next 55 = .ok (.areturn, 1) := dk_176 (dk_at dksJ23_next_2 7 rfl rfl)
abbrev cJ23_checkForComodification : ByteArray := prog_49_method_12_code
def yJ23_checkForComodification : MethodName := ⟨RJ23, "checkForComodification", "()V"⟩
def dkwJ23_checkForComodification_0 : List UInt8 := [42, 180, 0, 1, 180, 0, 13, 42, 180, 0, 19, 159, 0, 11, 187, 0, 91, 89, 183, 0, 93, 191, 177]
abbrev dktJ23_checkForComodification_0 : List UInt8 := dkwJ23_checkForComodification_0 ++ []
theorem dksJ23_checkForComodification_0 : cJ23_checkForComodification.data.toList.drop 0 = dktJ23_checkForComodification_0 := by decide +kernel
theorem dJ23_checkForComodification_0 : decode cJ23_checkForComodification 0 = .ok (.aload_n 0, 1) := dk_42 (dk_at dksJ23_checkForComodification_0 0 rfl rfl)
theorem dJ23_checkForComodification_1 : decode cJ23_checkForComodification 1 = .ok (.getfield 1, 3) := dk_180 0 1 (dk_at dksJ23_checkForComodification_0 1 rfl rfl)
theorem dJ23_checkForComodification_4 : decode cJ23_checkForComodification 4 = .ok (.getfield 13, 3) := dk_180 0 13 (dk_at dksJ23_checkForComodification_0 4 rfl rfl)
theorem dJ23_checkForComodification_7 : decode cJ23_checkForComodification 7 = .ok (.aload_n 0, 1) := dk_42 (dk_at dksJ23_checkForComodification_0 7 rfl rfl)
theorem dJ23_checkForComodification_8 : decode cJ23_checkForComodification 8 = .ok (.getfield 19, 3) := dk_180 0 19 (dk_at dksJ23_checkForComodification_0 8 rfl rfl)
theorem dJ23_checkForComodification_11 : decode cJ23_checkForComodification 11 = .ok (.if_icmp .eq 11, 3) := dk_159 0 11 (dk_at dksJ23_checkForComodification_0 11 rfl rfl)
theorem dJ23_checkForComodification_14 : decode cJ23_checkForComodification 14 = .ok (.new 91, 3) := dk_187 0 91 (dk_at dksJ23_checkForComodification_0 14 rfl rfl)
theorem dJ23_checkForComodification_17 : decode cJ23_checkForComodification 17 = .ok (.dup, 1) := dk_89 (dk_at dksJ23_checkForComodification_0 17 rfl rfl)
theorem dJ23_checkForComodification_18 : decode cJ23_checkForComodification 18 = .ok (.invokespecial 93, 3) := dk_183 0 93 (dk_at dksJ23_checkForComodification_0 18 rfl rfl)
theorem dJ23_checkForComodification_21 : decode cJ23_checkForComodification 21 = .ok (.athrow, 1) := dk_191 (dk_at dksJ23_checkForComodification_0 21 rfl rfl)
theorem dJ23_checkForComodification_22 : decode cJ23_checkForComodification 22 = .ok (.return_, 1) := dk_177 (dk_at dksJ23_checkForComodification_0 22 rfl rfl)
abbrev cJ23_remove : ByteArray := prog_49_method_8_code
def yJ23_remove : MethodName := ⟨RJ23, "remove", "()V"⟩
def dkwJ23_remove_3 : List UInt8 := [181, 0, 46, 42, 89, 180, 0, 19, 4, 96, 181, 0, 19, 177]
abbrev dktJ23_remove_3 : List UInt8 := dkwJ23_remove_3 ++ []
def dkwJ23_remove_2 : List UInt8 := [166, 0, 11, 42, 43, 181, 0, 29, 167, 0, 13, 42, 89, 180, 0, 33, 4, 100, 181, 0, 33, 42, 1]
abbrev dktJ23_remove_2 : List UInt8 := dkwJ23_remove_2 ++ dktJ23_remove_3
def dkwJ23_remove_1 : List UInt8 := [180, 0, 49, 76, 42, 180, 0, 1, 42, 180, 0, 46, 182, 0, 68, 87, 42, 180, 0, 29, 42, 180, 0, 46]
abbrev dktJ23_remove_1 : List UInt8 := dkwJ23_remove_1 ++ dktJ23_remove_2
def dkwJ23_remove_0 : List UInt8 := [42, 182, 0, 36, 42, 180, 0, 46, 199, 0, 11, 187, 0, 65, 89, 183, 0, 67, 191, 42, 180, 0, 46]
abbrev dktJ23_remove_0 : List UInt8 := dkwJ23_remove_0 ++ dktJ23_remove_1
theorem dksJ23_remove_0 : cJ23_remove.data.toList.drop 0 = dktJ23_remove_0 := by decide +kernel
theorem dksJ23_remove_1 : cJ23_remove.data.toList.drop 23 = dktJ23_remove_1 := dk_seg dksJ23_remove_0 23 rfl rfl
theorem dksJ23_remove_2 : cJ23_remove.data.toList.drop 47 = dktJ23_remove_2 := dk_seg dksJ23_remove_1 24 rfl rfl
theorem dksJ23_remove_3 : cJ23_remove.data.toList.drop 70 = dktJ23_remove_3 := dk_seg dksJ23_remove_2 23 rfl rfl
theorem dJ23_remove_0 : decode cJ23_remove 0 = .ok (.aload_n 0, 1) := dk_42 (dk_at dksJ23_remove_0 0 rfl rfl)
theorem dJ23_remove_1 : decode cJ23_remove 1 = .ok (.invokevirtual 36, 3) := dk_182 0 36 (dk_at dksJ23_remove_0 1 rfl rfl)
theorem dJ23_remove_4 : decode cJ23_remove 4 = .ok (.aload_n 0, 1) := dk_42 (dk_at dksJ23_remove_0 4 rfl rfl)
theorem dJ23_remove_5 : decode cJ23_remove 5 = .ok (.getfield 46, 3) := dk_180 0 46 (dk_at dksJ23_remove_0 5 rfl rfl)
theorem dJ23_remove_8 : decode cJ23_remove 8 = .ok (.ifnonnull 11, 3) := dk_199 0 11 (dk_at dksJ23_remove_0 8 rfl rfl)
theorem dJ23_remove_11 : decode cJ23_remove 11 = .ok (.new 65, 3) := dk_187 0 65 (dk_at dksJ23_remove_0 11 rfl rfl)
theorem dJ23_remove_14 : decode cJ23_remove 14 = .ok (.dup, 1) := dk_89 (dk_at dksJ23_remove_0 14 rfl rfl)
theorem dJ23_remove_15 : decode cJ23_remove 15 = .ok (.invokespecial 67, 3) := dk_183 0 67 (dk_at dksJ23_remove_0 15 rfl rfl)
theorem dJ23_remove_18 : decode cJ23_remove 18 = .ok (.athrow, 1) := dk_191 (dk_at dksJ23_remove_0 18 rfl rfl)
theorem dJ23_remove_19 : decode cJ23_remove 19 = .ok (.aload_n 0, 1) := dk_42 (dk_at dksJ23_remove_0 19 rfl rfl)
theorem dJ23_remove_20 : decode cJ23_remove 20 = .ok (.getfield 46, 3) := dk_180 0 46 (dk_at dksJ23_remove_0 20 rfl rfl)
theorem dJ23_remove_23 : decode cJ23_remove 23 = .ok (.getfield 49, 3) := dk_180 0 49 (dk_at dksJ23_remove_1 0 rfl rfl)
theorem dJ23_remove_26 : decode cJ23_remove 26 = .ok (.astore_n 1, 1) := dk_76 (dk_at dksJ23_remove_1 3 rfl rfl)
theorem dJ23_remove_27 : decode cJ23_remove 27 = .ok (.aload_n 0, 1) := dk_42 (dk_at dksJ23_remove_1 4 rfl rfl)
theorem dJ23_remove_28 : decode cJ23_remove 28 = .ok (.getfield 1, 3) := dk_180 0 1 (dk_at dksJ23_remove_1 5 rfl rfl)
theorem dJ23_remove_31 : decode cJ23_remove 31 = .ok (.aload_n 0, 1) := dk_42 (dk_at dksJ23_remove_1 8 rfl rfl)
theorem dJ23_remove_32 : decode cJ23_remove 32 = .ok (.getfield 46, 3) := dk_180 0 46 (dk_at dksJ23_remove_1 9 rfl rfl)
theorem dJ23_remove_35 : decode cJ23_remove 35 = .ok (.invokevirtual 68, 3) := dk_182 0 68 (dk_at dksJ23_remove_1 12 rfl rfl)
theorem dJ23_remove_38 : decode cJ23_remove 38 = .ok (.pop, 1) := dk_87 (dk_at dksJ23_remove_1 15 rfl rfl)
theorem dJ23_remove_39 : decode cJ23_remove 39 = .ok (.aload_n 0, 1) := dk_42 (dk_at dksJ23_remove_1 16 rfl rfl)
theorem dJ23_remove_40 : decode cJ23_remove 40 = .ok (.getfield 29, 3) := dk_180 0 29 (dk_at dksJ23_remove_1 17 rfl rfl)
theorem dJ23_remove_43 : decode cJ23_remove 43 = .ok (.aload_n 0, 1) := dk_42 (dk_at dksJ23_remove_1 20 rfl rfl)
theorem dJ23_remove_44 : decode cJ23_remove 44 = .ok (.getfield 46, 3) := dk_180 0 46 (dk_at dksJ23_remove_1 21 rfl rfl)
theorem dJ23_remove_47 : decode cJ23_remove 47 = .ok (.if_acmp .ne 11, 3) := dk_166 0 11 (dk_at dksJ23_remove_2 0 rfl rfl)
theorem dJ23_remove_50 : decode cJ23_remove 50 = .ok (.aload_n 0, 1) := dk_42 (dk_at dksJ23_remove_2 3 rfl rfl)
theorem dJ23_remove_51 : decode cJ23_remove 51 = .ok (.aload_n 1, 1) := dk_43 (dk_at dksJ23_remove_2 4 rfl rfl)
theorem dJ23_remove_52 : decode cJ23_remove 52 = .ok (.putfield 29, 3) := dk_181 0 29 (dk_at dksJ23_remove_2 5 rfl rfl)
theorem dJ23_remove_55 : decode cJ23_remove 55 = .ok (.goto 13, 3) := dk_167 0 13 (dk_at dksJ23_remove_2 8 rfl rfl)
theorem dJ23_remove_58 : decode cJ23_remove 58 = .ok (.aload_n 0, 1) := dk_42 (dk_at dksJ23_remove_2 11 rfl rfl)
theorem dJ23_remove_59 : decode cJ23_remove 59 = .ok (.dup, 1) := dk_89 (dk_at dksJ23_remove_2 12 rfl rfl)
theorem dJ23_remove_60 : decode cJ23_remove 60 = .ok (.getfield 33, 3) := dk_180 0 33 (dk_at dksJ23_remove_2 13 rfl rfl)
theorem dJ23_remove_63 : decode cJ23_remove 63 = .ok (.iconst 1, 1) := dk_4 (dk_at dksJ23_remove_2 16 rfl rfl)
theorem dJ23_remove_64 : decode cJ23_remove 64 = .ok (.isub, 1) := dk_100 (dk_at dksJ23_remove_2 17 rfl rfl)
theorem dJ23_remove_65 : decode cJ23_remove 65 = .ok (.putfield 33, 3) := dk_181 0 33 (dk_at dksJ23_remove_2 18 rfl rfl)
theorem dJ23_remove_68 : decode cJ23_remove 68 = .ok (.aload_n 0, 1) := dk_42 (dk_at dksJ23_remove_2 21 rfl rfl)
theorem dJ23_remove_69 : decode cJ23_remove 69 = .ok (.aconst_null, 1) := dk_1 (dk_at dksJ23_remove_2 22 rfl rfl)
theorem dJ23_remove_70 : decode cJ23_remove 70 = .ok (.putfield 46, 3) := dk_181 0 46 (dk_at dksJ23_remove_3 0 rfl rfl)
theorem dJ23_remove_73 : decode cJ23_remove 73 = .ok (.aload_n 0, 1) := dk_42 (dk_at dksJ23_remove_3 3 rfl rfl)
theorem dJ23_remove_74 : decode cJ23_remove 74 = .ok (.dup, 1) := dk_89 (dk_at dksJ23_remove_3 4 rfl rfl)
theorem dJ23_remove_75 : decode cJ23_remove 75 = .ok (.getfield 19, 3) := dk_180 0 19 (dk_at dksJ23_remove_3 5 rfl rfl)
theorem dJ23_remove_78 : decode cJ23_remove 78 = .ok (.iconst 1, 1) := dk_4 (dk_at dksJ23_remove_3 8 rfl rfl)
theorem dJ23_remove_79 : decode cJ23_remove 79 = .ok (.iadd, 1) := dk_96 (dk_at dksJ23_remove_3 9 rfl rfl)
theorem dJ23_remove_80 : decode cJ23_remove 80 = .ok (.putfield 19, 3) := dk_181 0 19 (dk_at dksJ23_remove_3 10 rfl rfl)
theorem dJ23_remove_83 : decode cJ23_remove 83 = .ok (.return_, 1) := dk_177 (dk_at dksJ23_remove_3 13 rfl rfl)
abbrev cJ23_previous : ByteArray := prog_49_method_5_code
def yJ23_previous : MethodName := ⟨RJ23, "previous", "()Ljava/lang/Object;"⟩
def dkwJ23_previous_2 : List UInt8 := [181, 0, 29, 181, 0, 46, 42, 89, 180, 0, 33, 4, 100, 181, 0, 33, 42, 180, 0, 46, 180, 0, 52, 176]
abbrev dktJ23_previous_2 : List UInt8 := dkwJ23_previous_2 ++ []
def dkwJ23_previous_1 : List UInt8 := [180, 0, 29, 199, 0, 13, 42, 180, 0, 1, 180, 0, 59, 167, 0, 10, 42, 180, 0, 29, 180, 0, 62, 90]
abbrev dktJ23_previous_1 : List UInt8 := dkwJ23_previous_1 ++ dktJ23_previous_2
def dkwJ23_previous_0 : List UInt8 := [42, 182, 0, 36, 42, 182, 0, 56, 154, 0, 11, 187, 0, 43, 89, 183, 0, 45, 191, 42, 42, 42]
abbrev dktJ23_previous_0 : List UInt8 := dkwJ23_previous_0 ++ dktJ23_previous_1
theorem dksJ23_previous_0 : cJ23_previous.data.toList.drop 0 = dktJ23_previous_0 := by decide +kernel
theorem dksJ23_previous_1 : cJ23_previous.data.toList.drop 22 = dktJ23_previous_1 := dk_seg dksJ23_previous_0 22 rfl rfl
theorem dksJ23_previous_2 : cJ23_previous.data.toList.drop 46 = dktJ23_previous_2 := dk_seg dksJ23_previous_1 24 rfl rfl
theorem dJ23_previous_0 : decode cJ23_previous 0 = .ok (.aload_n 0, 1) := dk_42 (dk_at dksJ23_previous_0 0 rfl rfl)
theorem dJ23_previous_1 : decode cJ23_previous 1 = .ok (.invokevirtual 36, 3) := dk_182 0 36 (dk_at dksJ23_previous_0 1 rfl rfl)
theorem dJ23_previous_4 : decode cJ23_previous 4 = .ok (.aload_n 0, 1) := dk_42 (dk_at dksJ23_previous_0 4 rfl rfl)
theorem dJ23_previous_5 : decode cJ23_previous 5 = .ok (.invokevirtual 56, 3) := dk_182 0 56 (dk_at dksJ23_previous_0 5 rfl rfl)
theorem dJ23_previous_8 : decode cJ23_previous 8 = .ok (.ifCond .ne 11, 3) := dk_154 0 11 (dk_at dksJ23_previous_0 8 rfl rfl)
theorem dJ23_previous_11 : decode cJ23_previous 11 = .ok (.new 43, 3) := dk_187 0 43 (dk_at dksJ23_previous_0 11 rfl rfl)
theorem dJ23_previous_14 : decode cJ23_previous 14 = .ok (.dup, 1) := dk_89 (dk_at dksJ23_previous_0 14 rfl rfl)
theorem dJ23_previous_15 : decode cJ23_previous 15 = .ok (.invokespecial 45, 3) := dk_183 0 45 (dk_at dksJ23_previous_0 15 rfl rfl)
theorem dJ23_previous_18 : decode cJ23_previous 18 = .ok (.athrow, 1) := dk_191 (dk_at dksJ23_previous_0 18 rfl rfl)
theorem dJ23_previous_19 : decode cJ23_previous 19 = .ok (.aload_n 0, 1) := dk_42 (dk_at dksJ23_previous_0 19 rfl rfl)
theorem dJ23_previous_20 : decode cJ23_previous 20 = .ok (.aload_n 0, 1) := dk_42 (dk_at dksJ23_previous_0 20 rfl rfl)
theorem dJ23_previous_21 : decode cJ23_previous 21 = .ok (.aload_n 0, 1) := dk_42 (dk_at dksJ23_previous_0 21 rfl rfl)
theorem dJ23_previous_22 : decode cJ23_previous 22 = .ok (.getfield 29, 3) := dk_180 0 29 (dk_at dksJ23_previous_1 0 rfl rfl)
theorem dJ23_previous_25 : decode cJ23_previous 25 = .ok (.ifnonnull 13, 3) := dk_199 0 13 (dk_at dksJ23_previous_1 3 rfl rfl)
theorem dJ23_previous_28 : decode cJ23_previous 28 = .ok (.aload_n 0, 1) := dk_42 (dk_at dksJ23_previous_1 6 rfl rfl)
theorem dJ23_previous_29 : decode cJ23_previous 29 = .ok (.getfield 1, 3) := dk_180 0 1 (dk_at dksJ23_previous_1 7 rfl rfl)
theorem dJ23_previous_32 : decode cJ23_previous 32 = .ok (.getfield 59, 3) := dk_180 0 59 (dk_at dksJ23_previous_1 10 rfl rfl)
theorem dJ23_previous_35 : decode cJ23_previous 35 = .ok (.goto 10, 3) := dk_167 0 10 (dk_at dksJ23_previous_1 13 rfl rfl)
theorem dJ23_previous_38 : decode cJ23_previous 38 = .ok (.aload_n 0, 1) := dk_42 (dk_at dksJ23_previous_1 16 rfl rfl)
theorem dJ23_previous_39 : decode cJ23_previous 39 = .ok (.getfield 29, 3) := dk_180 0 29 (dk_at dksJ23_previous_1 17 rfl rfl)
theorem dJ23_previous_42 : decode cJ23_previous 42 = .ok (.getfield 62, 3) := dk_180 0 62 (dk_at dksJ23_previous_1 20 rfl rfl)
theorem dJ23_previous_45 : decode cJ23_previous 45 = .ok (.dup_x1, 1) := dk_90 (dk_at dksJ23_previous_1 23 rfl rfl)
theorem dJ23_previous_46 : decode cJ23_previous 46 = .ok (.putfield 29, 3) := dk_181 0 29 (dk_at dksJ23_previous_2 0 rfl rfl)
theorem dJ23_previous_49 : decode cJ23_previous 49 = .ok (.putfield 46, 3) := dk_181 0 46 (dk_at dksJ23_previous_2 3 rfl rfl)
theorem dJ23_previous_52 : decode cJ23_previous 52 = .ok (.aload_n 0, 1) := dk_42 (dk_at dksJ23_previous_2 6 rfl rfl)
theorem dJ23_previous_53 : decode cJ23_previous 53 = .ok (.dup, 1) := dk_89 (dk_at dksJ23_previous_2 7 rfl rfl)
theorem dJ23_previous_54 : decode cJ23_previous 54 = .ok (.getfield 33, 3) := dk_180 0 33 (dk_at dksJ23_previous_2 8 rfl rfl)
theorem dJ23_previous_57 : decode cJ23_previous 57 = .ok (.iconst 1, 1) := dk_4 (dk_at dksJ23_previous_2 11 rfl rfl)
theorem dJ23_previous_58 : decode cJ23_previous 58 = .ok (.isub, 1) := dk_100 (dk_at dksJ23_previous_2 12 rfl rfl)
theorem dJ23_previous_59 : decode cJ23_previous 59 = .ok (.putfield 33, 3) := dk_181 0 33 (dk_at dksJ23_previous_2 13 rfl rfl)
theorem dJ23_previous_62 : decode cJ23_previous 62 = .ok (.aload_n 0, 1) := dk_42 (dk_at dksJ23_previous_2 16 rfl rfl)
theorem dJ23_previous_63 : decode cJ23_previous 63 = .ok (.getfield 46, 3) := dk_180 0 46 (dk_at dksJ23_previous_2 17 rfl rfl)
theorem dJ23_previous_66 : decode cJ23_previous 66 = .ok (.getfield 52, 3) := dk_180 0 52 (dk_at dksJ23_previous_2 20 rfl rfl)
theorem dJ23_previous_69 : decode cJ23_previous 69 = .ok (.areturn, 1) := dk_176 (dk_at dksJ23_previous_2 23 rfl rfl)
abbrev cJ23_hasPrevious : ByteArray := prog_49_method_4_code
def yJ23_hasPrevious : MethodName := ⟨RJ23, "hasPrevious", "()Z"⟩
def dkwJ23_hasPrevious_0 : List UInt8 := [42, 180, 0, 33, 158, 0, 7, 4, 167, 0, 4, 3, 172]
abbrev dktJ23_hasPrevious_0 : List UInt8 := dkwJ23_hasPrevious_0 ++ []
theorem dksJ23_hasPrevious_0 : cJ23_hasPrevious.data.toList.drop 0 = dktJ23_hasPrevious_0 := by decide +kernel
theorem dJ23_hasPrevious_0 : decode cJ23_hasPrevious 0 = .ok (.aload_n 0, 1) := dk_42 (dk_at dksJ23_hasPrevious_0 0 rfl rfl)
theorem dJ23_hasPrevious_1 : decode cJ23_hasPrevious 1 = .ok (.getfield 33, 3) := dk_180 0 33 (dk_at dksJ23_hasPrevious_0 1 rfl rfl)
theorem dJ23_hasPrevious_4 : decode cJ23_hasPrevious 4 = .ok (.ifCond .le 7, 3) := dk_158 0 7 (dk_at dksJ23_hasPrevious_0 4 rfl rfl)
theorem dJ23_hasPrevious_7 : decode cJ23_hasPrevious 7 = .ok (.iconst 1, 1) := dk_4 (dk_at dksJ23_hasPrevious_0 7 rfl rfl)
theorem dJ23_hasPrevious_8 : decode cJ23_hasPrevious 8 = .ok (.goto 4, 3) := dk_167 0 4 (dk_at dksJ23_hasPrevious_0 8 rfl rfl)
theorem dJ23_hasPrevious_11 : decode cJ23_hasPrevious 11 = .ok (.iconst 0, 1) := dk_3 (dk_at dksJ23_hasPrevious_0 11 rfl rfl)
theorem dJ23_hasPrevious_12 : decode cJ23_hasPrevious 12 = .ok (.ireturn, 1) := dk_172 (dk_at dksJ23_hasPrevious_0 12 rfl rfl)
abbrev cJ23_set : ByteArray := prog_49_method_9_code
def yJ23_set : MethodName := ⟨RJ23, "set", "(Ljava/lang/Object;)V"⟩
def dkwJ23_set_1 : List UInt8 := [181, 0, 52, 177]
abbrev dktJ23_set_1 : List UInt8 := dkwJ23_set_1 ++ []
def dkwJ23_set_0 : List UInt8 := [42, 180, 0, 46, 199, 0, 11, 187, 0, 65, 89, 183, 0, 67, 191, 42, 182, 0, 36, 42, 180, 0, 46, 43]
abbrev dktJ23_set_0 : List UInt8 := dkwJ23_set_0 ++ dktJ23_set_1
theorem dksJ23_set_0 : cJ23_set.data.toList.drop 0 = dktJ23_set_0 := by decide +kernel
theorem dksJ23_set_1 : cJ23_set.data.toList.drop 24 = dktJ23_set_1 := dk_seg dksJ23_set_0 24 rfl rfl
theorem dJ23_set_0 : decode cJ23_set 0 = .ok (.aload_n 0, 1) := dk_42 (dk_at dksJ23_set_0 0 rfl rfl)
theorem dJ23_set_1 : decode cJ23_set 1 = .ok (.getfield 46, 3) := dk_180 0 46 (dk_at dksJ23_set_0 1 rfl rfl)
theorem dJ23_set_4 : decode cJ23_set 4 = .ok (.ifnonnull 11, 3) := dk_199 0 11 (dk_at dksJ23_set_0 4 rfl rfl)
theorem dJ23_set_7 : decode cJ23_set 7 = .ok (.new 65, 3) := dk_187 0 65 (dk_at dksJ23_set_0 7 rfl rfl)
theorem dJ23_set_10 : decode cJ23_set 10 = .ok (.dup, 1) := dk_89 (dk_at dksJ23_set_0 10 rfl rfl)
theorem dJ23_set_11 : decode cJ23_set 11 = .ok (.invokespecial 67, 3) := dk_183 0 67 (dk_at dksJ23_set_0 11 rfl rfl)
theorem dJ23_set_14 : decode cJ23_set 14 = .ok (.athrow, 1) := dk_191 (dk_at dksJ23_set_0 14 rfl rfl)
theorem dJ23_set_15 : decode cJ23_set 15 = .ok (.aload_n 0, 1) := dk_42 (dk_at dksJ23_set_0 15 rfl rfl)
theorem dJ23_set_16 : decode cJ23_set 16 = .ok (.invokevirtual 36, 3) := dk_182 0 36 (dk_at dksJ23_set_0 16 rfl rfl)
theorem dJ23_set_19 : decode cJ23_set 19 = .ok (.aload_n 0, 1) := dk_42 (dk_at dksJ23_set_0 19 rfl rfl)
theorem dJ23_set_20 : decode cJ23_set 20 = .ok (.getfield 46, 3) := dk_180 0 46 (dk_at dksJ23_set_0 20 rfl rfl)
theorem dJ23_set_23 : decode cJ23_set 23 = .ok (.aload_n 1, 1) := dk_43 (dk_at dksJ23_set_0 23 rfl rfl)
theorem dJ23_set_24 : decode cJ23_set 24 = .ok (.putfield 52, 3) := dk_181 0 52 (dk_at dksJ23_set_1 0 rfl rfl)
theorem dJ23_set_27 : decode cJ23_set 27 = .ok (.return_, 1) := dk_177 (dk_at dksJ23_set_1 3 rfl rfl)
theorem q148 : (Jvm.Cond.initialized "java/util/LinkedList$ListItr") ∈ lw_all := lw_g (lw_at lw_m1 31 rfl) rfl
theorem q241 : (Jvm.Cond.fieldLink "java/util/LinkedList$ListItr" (22 : Nat) "java/util/LinkedList" "size" "I") ∈ lw_all := lw_g (lw_at lw_m1 124 rfl) rfl
theorem q244 : (Jvm.Cond.fieldLink "java/util/LinkedList$ListItr" (59 : Nat) "java/util/LinkedList" "last" "Ljava/util/LinkedList$Node;") ∈ lw_all := lw_g (lw_at lw_m1 127 rfl) rfl
theorem q246 : (Jvm.Cond.fieldLink "java/util/LinkedList$ListItr" (13 : Nat) "java/util/LinkedList" "modCount" "I") ∈ lw_all := lw_g (lw_at lw_m1 129 rfl) rfl
theorem q755 : (Jvm.Cond.fieldLink "java/util/LinkedList$ListItr" (52 : Nat) "java/util/LinkedList$Node" "item" "Ljava/lang/Object;") ∈ lw_all := lw_g (lw_at lw_m3 158 rfl) rfl
theorem q758 : (Jvm.Cond.fieldLink "java/util/LinkedList$ListItr" (49 : Nat) "java/util/LinkedList$Node" "next" "Ljava/util/LinkedList$Node;") ∈ lw_all := lw_g (lw_at lw_m3 161 rfl) rfl
theorem q761 : (Jvm.Cond.fieldLink "java/util/LinkedList$ListItr" (62 : Nat) "java/util/LinkedList$Node" "prev" "Ljava/util/LinkedList$Node;") ∈ lw_all := lw_g (lw_at lw_m3 164 rfl) rfl
theorem q1077 : (Jvm.Cond.instantiable "java/util/LinkedList$ListItr" (5 : Nat)) ∈ lw_all := lw_g (lw_at lw_m5 0 rfl) rfl
theorem q1079 : (Jvm.Cond.instanceMethod ({ cls := "java/util/LinkedList$ListItr", name := "<init>", desc := "(Ljava/util/LinkedList;I)V" } : Jvm.MethodName)) ∈ lw_all := lw_g (lw_at lw_m5 2 rfl) rfl
theorem q1080 : (Jvm.Cond.code ({ cls := "java/util/LinkedList$ListItr", name := "<init>", desc := "(Ljava/util/LinkedList;I)V" } : Jvm.MethodName) prog_49_method_1_code (3 : Nat) (Option.none : Option Jvm.ClassFile.FieldType)) ∈ lw_all := lw_g (lw_at lw_m5 3 rfl) rfl
theorem q1081 : (Jvm.Cond.methodLink "java/util/LinkedList$ListItr" (7 : Nat) ({ cls := "java/lang/Object", name := "<init>", desc := "()V" } : Jvm.MethodName)) ∈ lw_all := lw_g (lw_at lw_m5 4 rfl) rfl
theorem q1082 : (Jvm.Cond.methodLink "java/util/LinkedList$ListItr" (25 : Nat) ({ cls := "java/util/LinkedList", name := "node", desc := "(I)Ljava/util/LinkedList$Node;" } : Jvm.MethodName)) ∈ lw_all := lw_g (lw_at lw_m5 5 rfl) rfl
theorem q1083 : (Jvm.Cond.fieldLink "java/util/LinkedList$ListItr" (46 : Nat) "java/util/LinkedList$ListItr" "lastReturned" "Ljava/util/LinkedList$Node;") ∈ lw_all := lw_g (lw_at lw_m5 6 rfl) rfl
theorem q1084 : (Jvm.Cond.fieldLink "java/util/LinkedList$ListItr" (29 : Nat) "java/util/LinkedList$ListItr" "next" "Ljava/util/LinkedList$Node;") ∈ lw_all := lw_g (lw_at lw_m5 7 rfl) rfl
theorem q1085 : (Jvm.Cond.fieldLink "java/util/LinkedList$ListItr" (33 : Nat) "java/util/LinkedList$ListItr" "nextIndex" "I") ∈ lw_all := lw_g (lw_at lw_m5 8 rfl) rfl
theorem q1086 : (Jvm.Cond.fieldLink "java/util/LinkedList$ListItr" (19 : Nat) "java/util/LinkedList$ListItr" "expectedModCount" "I") ∈ lw_all := lw_g (lw_at lw_m5 9 rfl) rfl
theorem q1087 : (Jvm.Cond.fieldLink "java/util/LinkedList$ListItr" (1 : Nat) "java/util/LinkedList$ListItr" "this$0" "Ljava/util/LinkedList;") ∈ lw_all := lw_g (lw_at lw_m5 10 rfl) rfl
theorem q1088 : (Jvm.Cond.lays "java/util/LinkedList$ListItr" "java/util/LinkedList$ListItr" "lastReturned" "Ljava/util/LinkedList$Node;") ∈ lw_all := lw_g (lw_at lw_m5 11 rfl) rfl
theorem q1089 : (Jvm.Cond.soleField "java/util/LinkedList$ListItr" "lastReturned") ∈ lw_all := lw_g (lw_at lw_m5 12 rfl) rfl
theorem q1090 : (Jvm.Cond.lays "java/util/LinkedList$ListItr" "java/util/LinkedList$ListItr" "next" "Ljava/util/LinkedList$Node;") ∈ lw_all := lw_g (lw_at lw_m5 13 rfl) rfl
theorem q1091 : (Jvm.Cond.soleField "java/util/LinkedList$ListItr" "next") ∈ lw_all := lw_g (lw_at lw_m5 14 rfl) rfl
theorem q1092 : (Jvm.Cond.lays "java/util/LinkedList$ListItr" "java/util/LinkedList$ListItr" "nextIndex" "I") ∈ lw_all := lw_g (lw_at lw_m5 15 rfl) rfl
theorem q1093 : (Jvm.Cond.soleField "java/util/LinkedList$ListItr" "nextIndex") ∈ lw_all := lw_g (lw_at lw_m5 16 rfl) rfl
theorem q1094 : (Jvm.Cond.lays "java/util/LinkedList$ListItr" "java/util/LinkedList$ListItr" "expectedModCount" "I") ∈ lw_all := lw_g (lw_at lw_m5 17 rfl) rfl
theorem q1095 : (Jvm.Cond.soleField "java/util/LinkedList$ListItr" "expectedModCount") ∈ lw_all := lw_g (lw_at lw_m5 18 rfl) rfl
theorem q1096 : (Jvm.Cond.laysFinal "java/util/LinkedList$ListItr" "java/util/LinkedList$ListItr" "this$0" "Ljava/util/LinkedList;") ∈ lw_all := lw_g (lw_at lw_m5 19 rfl) rfl
theorem q1097 : (Jvm.Cond.soleField "java/util/LinkedList$ListItr" "this$0") ∈ lw_all := lw_g (lw_at lw_m5 20 rfl) rfl
theorem q1098 : (Jvm.Cond.superclass "java/util/LinkedList$ListItr" "java/lang/Object") ∈ lw_all := lw_g (lw_at lw_m5 21 rfl) rfl
theorem q1113 : (Jvm.Cond.castable "java/util/LinkedList$ListItr" "java/util/Iterator") ∈ lw_tbl := lw_at lw_m5 36 rfl
theorem q1114 : (Jvm.Cond.selects "java/util/LinkedList$ListItr" ({ cls := "java/util/Iterator", name := "hasNext", desc := "()Z" } : Jvm.MethodName) ({ cls := "java/util/LinkedList$ListItr", name := "hasNext", desc := "()Z" } : Jvm.MethodName)) ∈ lw_all := lw_g (lw_at lw_m5 37 rfl) rfl
theorem q1115 : (Jvm.Cond.unhidden "java/util/LinkedList$ListItr" "hasNext" "()Z") ∈ lw_tbl := lw_at lw_m5 38 rfl
theorem q1116 : (Jvm.Cond.instanceMethod ({ cls := "java/util/LinkedList$ListItr", name := "hasNext", desc := "()Z" } : Jvm.MethodName)) ∈ lw_all := lw_g (lw_at lw_m5 39 rfl) rfl
theorem q1117 : (Jvm.Cond.publicMethod ({ cls := "java/util/LinkedList$ListItr", name := "hasNext", desc := "()Z" } : Jvm.MethodName)) ∈ lw_tbl := lw_at lw_m5 40 rfl
theorem q1118 : (Jvm.Cond.code ({ cls := "java/util/LinkedList$ListItr", name := "hasNext", desc := "()Z" } : Jvm.MethodName) prog_49_method_2_code (1 : Nat) (Option.some Jvm.ClassFile.FieldType.boolean)) ∈ lw_all := lw_g (lw_at lw_m5 41 rfl) rfl
theorem q1185 : (Jvm.Cond.selects "java/util/LinkedList$ListItr" ({ cls := "java/lang/Object", name := "getClass", desc := "()Ljava/lang/Class;" } : Jvm.MethodName) ({ cls := "java/lang/Object", name := "getClass", desc := "()Ljava/lang/Class;" } : Jvm.MethodName)) ∈ lw_all := lw_g (lw_at lw_m5 108 rfl) rfl
theorem q1377 : (Jvm.Cond.selects "java/util/LinkedList$ListItr" ({ cls := "java/util/Iterator", name := "next", desc := "()Ljava/lang/Object;" } : Jvm.MethodName) ({ cls := "java/util/LinkedList$ListItr", name := "next", desc := "()Ljava/lang/Object;" } : Jvm.MethodName)) ∈ lw_all := lw_g (lw_at lw_m6 60 rfl) rfl
theorem q1378 : (Jvm.Cond.unhidden "java/util/LinkedList$ListItr" "next" "()Ljava/lang/Object;") ∈ lw_tbl := lw_at lw_m6 61 rfl
theorem q1379 : (Jvm.Cond.instanceMethod ({ cls := "java/util/LinkedList$ListItr", name := "next", desc := "()Ljava/lang/Object;" } : Jvm.MethodName)) ∈ lw_all := lw_g (lw_at lw_m6 62 rfl) rfl
theorem q1380 : (Jvm.Cond.publicMethod ({ cls := "java/util/LinkedList$ListItr", name := "next", desc := "()Ljava/lang/Object;" } : Jvm.MethodName)) ∈ lw_tbl := lw_at lw_m6 63 rfl
theorem q1381 : (Jvm.Cond.code ({ cls := "java/util/LinkedList$ListItr", name := "next", desc := "()Ljava/lang/Object;" } : Jvm.MethodName) prog_49_method_3_code (1 : Nat) (Option.some (Jvm.ClassFile.FieldType.object "java/lang/Object"))) ∈ lw_all := lw_g (lw_at lw_m6 64 rfl) rfl
theorem q1382 : (Jvm.Cond.methodLink "java/util/LinkedList$ListItr" (36 : Nat) ({ cls := "java/util/LinkedList$ListItr", name := "checkForComodification", desc := "()V" } : Jvm.MethodName)) ∈ lw_all := lw_g (lw_at lw_m6 65 rfl) rfl
theorem q1383 : (Jvm.Cond.instanceMethod ({ cls := "java/util/LinkedList$ListItr", name := "checkForComodification", desc := "()V" } : Jvm.MethodName)) ∈ lw_all := lw_g (lw_at lw_m6 66 rfl) rfl
theorem q1384 : (Jvm.Cond.selects "java/util/LinkedList$ListItr" ({ cls := "java/util/LinkedList$ListItr", name := "checkForComodification", desc := "()V" } : Jvm.MethodName) ({ cls := "java/util/LinkedList$ListItr", name := "checkForComodification", desc := "()V" } : Jvm.MethodName)) ∈ lw_all := lw_g (lw_at lw_m6 67 rfl) rfl
theorem q1385 : (Jvm.Cond.code ({ cls := "java/util/LinkedList$ListItr", name := "checkForComodification", desc := "()V" } : Jvm.MethodName) prog_49_method_12_code (1 : Nat) (Option.none : Option Jvm.ClassFile.FieldType)) ∈ lw_all := lw_g (lw_at lw_m6 68 rfl) rfl
theorem q1386 : (Jvm.Cond.methodLink "java/util/LinkedList$ListItr" (39 : Nat) ({ cls := "java/util/LinkedList$ListItr", name := "hasNext", desc := "()Z" } : Jvm.MethodName)) ∈ lw_all := lw_g (lw_at lw_m6 69 rfl) rfl
theorem q1387 : (Jvm.Cond.classLink "java/util/LinkedList$ListItr" (43 : Nat) "java/util/NoSuchElementException") ∈ lw_all := lw_g (lw_at lw_m6 70 rfl) rfl
theorem q1388 : (Jvm.Cond.methodLink "java/util/LinkedList$ListItr" (45 : Nat) ({ cls := "java/util/NoSuchElementException", name := "<init>", desc := "()V" } : Jvm.MethodName)) ∈ lw_all := lw_g (lw_at lw_m6 71 rfl) rfl
theorem q1448 : (Jvm.Cond.selects "java/util/LinkedList$ListItr" ({ cls := "java/util/Iterator", name := "remove", desc := "()V" } : Jvm.MethodName) ({ cls := "java/util/LinkedList$ListItr", name := "remove", desc := "()V" } : Jvm.MethodName)) ∈ lw_all := lw_g (lw_at lw_m6 131 rfl) rfl
theorem q1449 : (Jvm.Cond.unhidden "java/util/LinkedList$ListItr" "remove" "()V") ∈ lw_tbl := lw_at lw_m6 132 rfl
theorem q1450 : (Jvm.Cond.instanceMethod ({ cls := "java/util/LinkedList$ListItr", name := "remove", desc := "()V" } : Jvm.MethodName)) ∈ lw_all := lw_g (lw_at lw_m6 133 rfl) rfl
theorem q1451 : (Jvm.Cond.publicMethod ({ cls := "java/util/LinkedList$ListItr", name := "remove", desc := "()V" } : Jvm.MethodName)) ∈ lw_tbl := lw_at lw_m6 134 rfl
theorem q1452 : (Jvm.Cond.code ({ cls := "java/util/LinkedList$ListItr", name := "remove", desc := "()V" } : Jvm.MethodName) prog_49_method_8_code (2 : Nat) (Option.none : Option Jvm.ClassFile.FieldType)) ∈ lw_all := lw_g (lw_at lw_m6 135 rfl) rfl
theorem q1453 : (Jvm.Cond.methodLink "java/util/LinkedList$ListItr" (68 : Nat) ({ cls := "java/util/LinkedList", name := "unlink", desc := "(Ljava/util/LinkedList$Node;)Ljava/lang/Object;" } : Jvm.MethodName)) ∈ lw_all := lw_g (lw_at lw_m6 136 rfl) rfl
theorem q1505 : (Jvm.Cond.castable "java/util/LinkedList$ListItr" "java/util/ListIterator") ∈ lw_tbl := lw_at lw_m6 188 rfl
theorem q1506 : (Jvm.Cond.selects "java/util/LinkedList$ListItr" ({ cls := "java/util/ListIterator", name := "next", desc := "()Ljava/lang/Object;" } : Jvm.MethodName) ({ cls := "java/util/LinkedList$ListItr", name := "next", desc := "()Ljava/lang/Object;" } : Jvm.MethodName)) ∈ lw_all := lw_g (lw_at lw_m6 189 rfl) rfl
theorem q1523 : (Jvm.Cond.selects "java/util/LinkedList$ListItr" ({ cls := "java/util/ListIterator", name := "previous", desc := "()Ljava/lang/Object;" } : Jvm.MethodName) ({ cls := "java/util/LinkedList$ListItr", name := "previous", desc := "()Ljava/lang/Object;" } : Jvm.MethodName)) ∈ lw_all := lw_g (lw_at lw_m6 206 rfl) rfl
theorem q1524 : (Jvm.Cond.unhidden "java/util/LinkedList$ListItr" "previous" "()Ljava/lang/Object;") ∈ lw_tbl := lw_at lw_m6 207 rfl
theorem q1525 : (Jvm.Cond.instanceMethod ({ cls := "java/util/LinkedList$ListItr", name := "previous", desc := "()Ljava/lang/Object;" } : Jvm.MethodName)) ∈ lw_all := lw_g (lw_at lw_m6 208 rfl) rfl
theorem q1526 : (Jvm.Cond.publicMethod ({ cls := "java/util/LinkedList$ListItr", name := "previous", desc := "()Ljava/lang/Object;" } : Jvm.MethodName)) ∈ lw_tbl := lw_at lw_m6 209 rfl
theorem q1527 : (Jvm.Cond.code ({ cls := "java/util/LinkedList$ListItr", name := "previous", desc := "()Ljava/lang/Object;" } : Jvm.MethodName) prog_49_method_5_code (1 : Nat) (Option.some (Jvm.ClassFile.FieldType.object "java/lang/Object"))) ∈ lw_all := lw_g (lw_at lw_m6 210 rfl) rfl
theorem q1528 : (Jvm.Cond.methodLink "java/util/LinkedList$ListItr" (56 : Nat) ({ cls := "java/util/LinkedList$ListItr", name := "hasPrevious", desc := "()Z" } : Jvm.MethodName)) ∈ lw_all := lw_g (lw_at lw_m6 211 rfl) rfl
theorem q1529 : (Jvm.Cond.instanceMethod ({ cls := "java/util/LinkedList$ListItr", name := "hasPrevious", desc := "()Z" } : Jvm.MethodName)) ∈ lw_all := lw_g (lw_at lw_m6 212 rfl) rfl
theorem q1530 : (Jvm.Cond.selects "java/util/LinkedList$ListItr" ({ cls := "java/util/LinkedList$ListItr", name := "hasPrevious", desc := "()Z" } : Jvm.MethodName) ({ cls := "java/util/LinkedList$ListItr", name := "hasPrevious", desc := "()Z" } : Jvm.MethodName)) ∈ lw_all := lw_g (lw_at lw_m6 213 rfl) rfl
theorem q1531 : (Jvm.Cond.code ({ cls := "java/util/LinkedList$ListItr", name := "hasPrevious", desc := "()Z" } : Jvm.MethodName) prog_49_method_4_code (1 : Nat) (Option.some Jvm.ClassFile.FieldType.boolean)) ∈ lw_all := lw_g (lw_at lw_m6 214 rfl) rfl
theorem q1550 : (Jvm.Cond.selects "java/util/LinkedList$ListItr" ({ cls := "java/util/ListIterator", name := "set", desc := "(Ljava/lang/Object;)V" } : Jvm.MethodName) ({ cls := "java/util/LinkedList$ListItr", name := "set", desc := "(Ljava/lang/Object;)V" } : Jvm.MethodName)) ∈ lw_all := lw_g (lw_at lw_m6 233 rfl) rfl
theorem q1551 : (Jvm.Cond.unhidden "java/util/LinkedList$ListItr" "set" "(Ljava/lang/Object;)V") ∈ lw_tbl := lw_at lw_m6 234 rfl
theorem q1552 : (Jvm.Cond.instanceMethod ({ cls := "java/util/LinkedList$ListItr", name := "set", desc := "(Ljava/lang/Object;)V" } : Jvm.MethodName)) ∈ lw_all := lw_g (lw_at lw_m6 235 rfl) rfl
theorem q1553 : (Jvm.Cond.publicMethod ({ cls := "java/util/LinkedList$ListItr", name := "set", desc := "(Ljava/lang/Object;)V" } : Jvm.MethodName)) ∈ lw_tbl := lw_at lw_m6 236 rfl
theorem q1554 : (Jvm.Cond.code ({ cls := "java/util/LinkedList$ListItr", name := "set", desc := "(Ljava/lang/Object;)V" } : Jvm.MethodName) prog_49_method_9_code (2 : Nat) (Option.none : Option Jvm.ClassFile.FieldType)) ∈ lw_all := lw_g (lw_at lw_m6 237 rfl) rfl
theorem q2341 : (Jvm.Cond.selects "java/util/LinkedList$ListItr" ({ cls := "java/util/LinkedList$ListItr", name := "hasNext", desc := "()Z" } : Jvm.MethodName) ({ cls := "java/util/LinkedList$ListItr", name := "hasNext", desc := "()Z" } : Jvm.MethodName)) ∈ lw_all := lw_g (lw_at lw_m10 64 rfl) rfl
theorem q2357 : (Jvm.Cond.castable "java/util/LinkedList$ListItr" "java/lang/Object") ∈ lw_tbl := lw_at lw_m10 80 rfl
theorem in_J23 : ∀ w ∈ wsJ230, w ∈ lw_all := lw_in wsJ230 [1088, 1090, 1092, 1094, 1096] (by decide +kernel) (by decide +kernel)
/-! java/lang/AbstractStringBuilder -/
set_option maxRecDepth 100000
def RJ24 : String := "java/lang/AbstractStringBuilder"
abbrev cJ24_init : ByteArray := prog_11_method_2_code
def yJ24_init : MethodName := ⟨RJ24, "<init>", "(I)V"⟩
def dkwJ24_init_1 : List UInt8 := [167, 0, 16, 42, 27, 184, 0, 26, 181, 0, 15, 42, 4, 181, 0, 22, 177]
abbrev dktJ24_init_1 : List UInt8 := dkwJ24_init_1 ++ []
def dkwJ24_init_0 : List UInt8 := [42, 183, 0, 3, 178, 0, 18, 153, 0, 18, 42, 27, 188, 8, 181, 0, 15, 42, 3, 181, 0, 22]
abbrev dktJ24_init_0 : List UInt8 := dkwJ24_init_0 ++ dktJ24_init_1
theorem dksJ24_init_0 : cJ24_init.data.toList.drop 0 = dktJ24_init_0 := by decide +kernel
theorem dksJ24_init_1 : cJ24_init.data.toList.drop 22 = dktJ24_init_1 := dk_seg dksJ24_init_0 22 rfl rfl
theorem dJ24_init_0 : decode cJ24_init 0 = .ok (.aload_n 0, 1) := dk_42 (dk_at dksJ24_init_0 0 rfl rfl)
theorem dJ24_init_1 : decode cJ24_init 1 = .ok (.invokespecial 3, 3) := dk_183 0 3 (dk_at dksJ24_init_0 1 rfl rfl)
theorem dJ24_init_4 : decode cJ24_init 4 = .ok (.getstatic 18, 3) := dk_178 0 18 (dk_at dksJ24_init_0 4 rfl rfl)
theorem dJ24_init_7 : decode cJ24_init 7 = .ok (.ifCond .eq 18, 3) := dk_153 0 18 (dk_at dksJ24_init_0 7 rfl rfl)
theorem dJ24_init_10 : decode cJ24_init 10 = .ok (.aload_n 0, 1) := dk_42 (dk_at dksJ24_init_0 10 rfl rfl)
theorem dJ24_init_11 : decode cJ24_init 11 = .ok (.iload_n 1, 1) := dk_27 (dk_at dksJ24_init_0 11 rfl rfl)
theorem dJ24_init_12 : decode cJ24_init 12 = .ok (.newarray .byte, 2) := dk_188_8 (dk_at dksJ24_init_0 12 rfl rfl)
theorem dJ24_init_14 : decode cJ24_init 14 = .ok (.putfield 15, 3) := dk_181 0 15 (dk_at dksJ24_init_0 14 rfl rfl)
theorem dJ24_init_17 : decode cJ24_init 17 = .ok (.aload_n 0, 1) := dk_42 (dk_at dksJ24_init_0 17 rfl rfl)
theorem dJ24_init_18 : decode cJ24_init 18 = .ok (.iconst 0, 1) := dk_3 (dk_at dksJ24_init_0 18 rfl rfl)
theorem dJ24_init_19 : decode cJ24_init 19 = .ok (.putfield 22, 3) := dk_181 0 22 (dk_at dksJ24_init_0 19 rfl rfl)
theorem dJ24_init_22 : decode cJ24_init 22 = .ok (.goto 16, 3) := dk_167 0 16 (dk_at dksJ24_init_1 0 rfl rfl)
theorem dJ24_init_25 : decode cJ24_init 25 = .ok (.aload_n 0, 1) := dk_42 (dk_at dksJ24_init_1 3 rfl rfl)
theorem dJ24_init_26 : decode cJ24_init 26 = .ok (.iload_n 1, 1) := dk_27 (dk_at dksJ24_init_1 4 rfl rfl)
theorem dJ24_init_27 : decode cJ24_init 27 = .ok (.invokestatic 26, 3) := dk_184 0 26 (dk_at dksJ24_init_1 5 rfl rfl)
theorem dJ24_init_30 : decode cJ24_init 30 = .ok (.putfield 15, 3) := dk_181 0 15 (dk_at dksJ24_init_1 8 rfl rfl)
theorem dJ24_init_33 : decode cJ24_init 33 = .ok (.aload_n 0, 1) := dk_42 (dk_at dksJ24_init_1 11 rfl rfl)
theorem dJ24_init_34 : decode cJ24_init 34 = .ok (.iconst 1, 1) := dk_4 (dk_at dksJ24_init_1 12 rfl rfl)
theorem dJ24_init_35 : decode cJ24_init 35 = .ok (.putfield 22, 3) := dk_181 0 22 (dk_at dksJ24_init_1 13 rfl rfl)
theorem dJ24_init_38 : decode cJ24_init 38 = .ok (.return_, 1) := dk_177 (dk_at dksJ24_init_1 16 rfl rfl)
abbrev cJ24_append : ByteArray := prog_11_method_22_code
def yJ24_append : MethodName := ⟨RJ24, "append", "(Ljava/lang/String;)Ljava/lang/AbstractStringBuilder;"⟩
def dkwJ24_append_1 : List UInt8 := [42, 42, 180, 0, 79, 43, 182, 0, 208, 42, 89, 180, 0, 79, 28, 96, 181, 0, 79, 42, 176]
abbrev dktJ24_append_1 : List UInt8 := dkwJ24_append_1 ++ []
def dkwJ24_append_0 : List UInt8 := [43, 199, 0, 8, 42, 182, 0, 204, 176, 43, 182, 0, 32, 61, 42, 42, 180, 0, 79, 28, 96, 182, 0, 100]
abbrev dktJ24_append_0 : List UInt8 := dkwJ24_append_0 ++ dktJ24_append_1
theorem dksJ24_append_0 : cJ24_append.data.toList.drop 0 = dktJ24_append_0 := by decide +kernel
theorem dksJ24_append_1 : cJ24_append.data.toList.drop 24 = dktJ24_append_1 := dk_seg dksJ24_append_0 24 rfl rfl
theorem dJ24_append_0 : decode cJ24_append 0 = .ok (.aload_n 1, 1) := dk_43 (dk_at dksJ24_append_0 0 rfl rfl)
theorem dJ24_append_1 : decode cJ24_append 1 = .ok (.ifnonnull 8, 3) := dk_199 0 8 (dk_at dksJ24_append_0 1 rfl rfl)
theorem dJ24_append_4 : decode cJ24_append 4 = .ok (.aload_n 0, 1) := dk_42 (dk_at dksJ24_append_0 4 rfl rfl)
theorem dJ24_append_5 : decode cJ24_append 5 = .ok (.invokevirtual 204, 3) := dk_182 0 204 (dk_at dksJ24_append_0 5 rfl rfl)
theorem dJ24_append_8 : decode cJ24_append 8 = .ok (.areturn, 1) := dk_176 (dk_at dksJ24_append_0 8 rfl rfl)
theorem dJ24_append_9 : decode cJ24_append 9 = .ok (.aload_n 1, 1) := dk_43 (dk_at dksJ24_append_0 9 rfl rfl)
theorem dJ24_append_10 : decode cJ24_append 10 = .ok (.invokevirtual 32, 3) := dk_182 0 32 (dk_at dksJ24_append_0 10 rfl rfl)
theorem dJ24_append_13 : decode cJ24_append 13 = .ok (.istore_n 2, 1) := dk_61 (dk_at dksJ24_append_0 13 rfl rfl)
theorem dJ24_append_14 : decode cJ24_append 14 = .ok (.aload_n 0, 1) := dk_42 (dk_at dksJ24_append_0 14 rfl rfl)
theorem dJ24_append_15 : decode cJ24_append 15 = .ok (.aload_n 0, 1) := dk_42 (dk_at dksJ24_append_0 15 rfl rfl)
theorem dJ24_append_16 : decode cJ24_append 16 = .ok (.getfield 79, 3) := dk_180 0 79 (dk_at dksJ24_append_0 16 rfl rfl)
theorem dJ24_append_19 : decode cJ24_append 19 = .ok (.iload_n 2, 1) := dk_28 (dk_at dksJ24_append_0 19 rfl rfl)
theorem dJ24_append_20 : decode cJ24_append 20 = .ok (.iadd, 1) := dk_96 (dk_at dksJ24_append_0 20 rfl rfl)
theorem dJ24_append_21 : decode cJ24_append 21 = .ok (.invokevirtual 100, 3) := dk_182 0 100 (dk_at dksJ24_append_0 21 rfl rfl)
theorem dJ24_append_24 : decode cJ24_append 24 = .ok (.aload_n 0, 1) := dk_42 (dk_at dksJ24_append_1 0 rfl rfl)
theorem dJ24_append_25 : decode cJ24_append 25 = .ok (.aload_n 0, 1) := dk_42 (dk_at dksJ24_append_1 1 rfl rfl)
theorem dJ24_append_26 : decode cJ24_append 26 = .ok (.getfield 79, 3) := dk_180 0 79 (dk_at dksJ24_append_1 2 rfl rfl)
theorem dJ24_append_29 : decode cJ24_append 29 = .ok (.aload_n 1, 1) := dk_43 (dk_at dksJ24_append_1 5 rfl rfl)
theorem dJ24_append_30 : decode cJ24_append 30 = .ok (.invokevirtual 208, 3) := dk_182 0 208 (dk_at dksJ24_append_1 6 rfl rfl)
theorem dJ24_append_33 : decode cJ24_append 33 = .ok (.aload_n 0, 1) := dk_42 (dk_at dksJ24_append_1 9 rfl rfl)
theorem dJ24_append_34 : decode cJ24_append 34 = .ok (.dup, 1) := dk_89 (dk_at dksJ24_append_1 10 rfl rfl)
theorem dJ24_append_35 : decode cJ24_append 35 = .ok (.getfield 79, 3) := dk_180 0 79 (dk_at dksJ24_append_1 11 rfl rfl)
theorem dJ24_append_38 : decode cJ24_append 38 = .ok (.iload_n 2, 1) := dk_28 (dk_at dksJ24_append_1 14 rfl rfl)
theorem dJ24_append_39 : decode cJ24_append 39 = .ok (.iadd, 1) := dk_96 (dk_at dksJ24_append_1 15 rfl rfl)
theorem dJ24_append_40 : decode cJ24_append 40 = .ok (.putfield 79, 3) := dk_181 0 79 (dk_at dksJ24_append_1 16 rfl rfl)
theorem dJ24_append_43 : decode cJ24_append 43 = .ok (.aload_n 0, 1) := dk_42 (dk_at dksJ24_append_1 19 rfl rfl)
theorem dJ24_append_44 : decode cJ24_append 44 = .ok (.areturn, 1) := dk_176 (dk_at dksJ24_append_1 20 rfl rfl)
abbrev cJ24_appendNull : ByteArray := prog_11_method_26_code
def yJ24_appendNull : MethodName := ⟨RJ24, "appendNull", "()Ljava/lang/AbstractStringBuilder;"⟩
def dkwJ24_appendNull_3 : List UInt8 := [184, 0, 226, 60, 42, 27, 181, 0, 79, 42, 176]
abbrev dktJ24_appendNull_3 : List UInt8 := dkwJ24_appendNull_3 ++ []
def dkwJ24_appendNull_2 : List UInt8 := [16, 108, 84, 44, 27, 132, 1, 1, 16, 108, 84, 167, 0, 17, 44, 27, 16, 110, 16, 117, 16, 108, 16, 108]
abbrev dktJ24_appendNull_2 : List UInt8 := dkwJ24_appendNull_2 ++ dktJ24_appendNull_3
def dkwJ24_appendNull_1 : List UInt8 := [153, 0, 38, 44, 27, 132, 1, 1, 16, 110, 84, 44, 27, 132, 1, 1, 16, 117, 84, 44, 27, 132, 1, 1]
abbrev dktJ24_appendNull_1 : List UInt8 := dkwJ24_appendNull_1 ++ dktJ24_appendNull_2
def dkwJ24_appendNull_0 : List UInt8 := [42, 42, 180, 0, 79, 7, 96, 182, 0, 100, 42, 180, 0, 79, 60, 42, 180, 0, 15, 77, 42, 182, 0, 83]
abbrev dktJ24_appendNull_0 : List UInt8 := dkwJ24_appendNull_0 ++ dktJ24_appendNull_1
theorem dksJ24_appendNull_0 : cJ24_appendNull.data.toList.drop 0 = dktJ24_appendNull_0 := by decide +kernel
theorem dksJ24_appendNull_1 : cJ24_appendNull.data.toList.drop 24 = dktJ24_appendNull_1 := dk_seg dksJ24_appendNull_0 24 rfl rfl
theorem dksJ24_appendNull_2 : cJ24_appendNull.data.toList.drop 48 = dktJ24_appendNull_2 := dk_seg dksJ24_appendNull_1 24 rfl rfl
theorem dksJ24_appendNull_3 : cJ24_appendNull.data.toList.drop 72 = dktJ24_appendNull_3 := dk_seg dksJ24_appendNull_2 24 rfl rfl
theorem dJ24_appendNull_0 : decode cJ24_appendNull 0 = .ok (.aload_n 0, 1) := dk_42 (dk_at dksJ24_appendNull_0 0 rfl rfl)
theorem dJ24_appendNull_1 : decode cJ24_appendNull 1 = .ok (.aload_n 0, 1) := dk_42 (dk_at dksJ24_appendNull_0 1 rfl rfl)
theorem dJ24_appendNull_2 : decode cJ24_appendNull 2 = .ok (.getfield 79, 3) := dk_180 0 79 (dk_at dksJ24_appendNull_0 2 rfl rfl)
theorem dJ24_appendNull_5 : decode cJ24_appendNull 5 = .ok (.iconst 4, 1) := dk_7 (dk_at dksJ24_appendNull_0 5 rfl rfl)
theorem dJ24_appendNull_6 : decode cJ24_appendNull 6 = .ok (.iadd, 1) := dk_96 (dk_at dksJ24_appendNull_0 6 rfl rfl)
theorem dJ24_appendNull_7 : decode cJ24_appendNull 7 = .ok (.invokevirtual 100, 3) := dk_182 0 100 (dk_at dksJ24_appendNull_0 7 rfl rfl)
theorem dJ24_appendNull_10 : decode cJ24_appendNull 10 = .ok (.aload_n 0, 1) := dk_42 (dk_at dksJ24_appendNull_0 10 rfl rfl)
theorem dJ24_appendNull_11 : decode cJ24_appendNull 11 = .ok (.getfield 79, 3) := dk_180 0 79 (dk_at dksJ24_appendNull_0 11 rfl rfl)
theorem dJ24_appendNull_14 : decode cJ24_appendNull 14 = .ok (.istore_n 1, 1) := dk_60 (dk_at dksJ24_appendNull_0 14 rfl rfl)
theorem dJ24_appendNull_15 : decode cJ24_appendNull 15 = .ok (.aload_n 0, 1) := dk_42 (dk_at dksJ24_appendNull_0 15 rfl rfl)
theorem dJ24_appendNull_16 : decode cJ24_appendNull 16 = .ok (.getfield 15, 3) := dk_180 0 15 (dk_at dksJ24_appendNull_0 16 rfl rfl)
theorem dJ24_appendNull_19 : decode cJ24_appendNull 19 = .ok (.astore_n 2, 1) := dk_77 (dk_at dksJ24_appendNull_0 19 rfl rfl)
theorem dJ24_appendNull_20 : decode cJ24_appendNull 20 = .ok (.aload_n 0, 1) := dk_42 (dk_at dksJ24_appendNull_0 20 rfl rfl)
theorem dJ24_appendNull_21 : decode cJ24_appendNull 21 = .ok (.invokevirtual 83, 3) := dk_182 0 83 (dk_at dksJ24_appendNull_0 21 rfl rfl)
theorem dJ24_appendNull_24 : decode cJ24_appendNull 24 = .ok (.ifCond .eq 38, 3) := dk_153 0 38 (dk_at dksJ24_appendNull_1 0 rfl rfl)
theorem dJ24_appendNull_27 : decode cJ24_appendNull 27 = .ok (.aload_n 2, 1) := dk_44 (dk_at dksJ24_appendNull_1 3 rfl rfl)
theorem dJ24_appendNull_28 : decode cJ24_appendNull 28 = .ok (.iload_n 1, 1) := dk_27 (dk_at dksJ24_appendNull_1 4 rfl rfl)
theorem dJ24_appendNull_29 : decode cJ24_appendNull 29 = .ok (.iinc 1 1, 3) := dk_132 1 1 (dk_at dksJ24_appendNull_1 5 rfl rfl)
theorem dJ24_appendNull_32 : decode cJ24_appendNull 32 = .ok (.bipush 110, 2) := dk_16 110 (dk_at dksJ24_appendNull_1 8 rfl rfl)
theorem dJ24_appendNull_34 : decode cJ24_appendNull 34 = .ok (.bastore, 1) := dk_84 (dk_at dksJ24_appendNull_1 10 rfl rfl)
theorem dJ24_appendNull_35 : decode cJ24_appendNull 35 = .ok (.aload_n 2, 1) := dk_44 (dk_at dksJ24_appendNull_1 11 rfl rfl)
theorem dJ24_appendNull_36 : decode cJ24_appendNull 36 = .ok (.iload_n 1, 1) := dk_27 (dk_at dksJ24_appendNull_1 12 rfl rfl)
theorem dJ24_appendNull_37 : decode cJ24_appendNull 37 = .ok (.iinc 1 1, 3) := dk_132 1 1 (dk_at dksJ24_appendNull_1 13 rfl rfl)
theorem dJ24_appendNull_40 : decode cJ24_appendNull 40 = .ok (.bipush 117, 2) := dk_16 117 (dk_at dksJ24_appendNull_1 16 rfl rfl)
theorem dJ24_appendNull_42 : decode cJ24_appendNull 42 = .ok (.bastore, 1) := dk_84 (dk_at dksJ24_appendNull_1 18 rfl rfl)
theorem dJ24_appendNull_43 : decode cJ24_appendNull 43 = .ok (.aload_n 2, 1) := dk_44 (dk_at dksJ24_appendNull_1 19 rfl rfl)
theorem dJ24_appendNull_44 : decode cJ24_appendNull 44 = .ok (.iload_n 1, 1) := dk_27 (dk_at dksJ24_appendNull_1 20 rfl rfl)
theorem dJ24_appendNull_45 : decode cJ24_appendNull 45 = .ok (.iinc 1 1, 3) := dk_132 1 1 (dk_at dksJ24_appendNull_1 21 rfl rfl)
theorem dJ24_appendNull_48 : decode cJ24_appendNull 48 = .ok (.bipush 108, 2) := dk_16 108 (dk_at dksJ24_appendNull_2 0 rfl rfl)
theorem dJ24_appendNull_50 : decode cJ24_appendNull 50 = .ok (.bastore, 1) := dk_84 (dk_at dksJ24_appendNull_2 2 rfl rfl)
theorem dJ24_appendNull_51 : decode cJ24_appendNull 51 = .ok (.aload_n 2, 1) := dk_44 (dk_at dksJ24_appendNull_2 3 rfl rfl)
theorem dJ24_appendNull_52 : decode cJ24_appendNull 52 = .ok (.iload_n 1, 1) := dk_27 (dk_at dksJ24_appendNull_2 4 rfl rfl)
theorem dJ24_appendNull_53 : decode cJ24_appendNull 53 = .ok (.iinc 1 1, 3) := dk_132 1 1 (dk_at dksJ24_appendNull_2 5 rfl rfl)
theorem dJ24_appendNull_56 : decode cJ24_appendNull 56 = .ok (.bipush 108, 2) := dk_16 108 (dk_at dksJ24_appendNull_2 8 rfl rfl)
theorem dJ24_appendNull_58 : decode cJ24_appendNull 58 = .ok (.bastore, 1) := dk_84 (dk_at dksJ24_appendNull_2 10 rfl rfl)
theorem dJ24_appendNull_59 : decode cJ24_appendNull 59 = .ok (.goto 17, 3) := dk_167 0 17 (dk_at dksJ24_appendNull_2 11 rfl rfl)
theorem dJ24_appendNull_62 : decode cJ24_appendNull 62 = .ok (.aload_n 2, 1) := dk_44 (dk_at dksJ24_appendNull_2 14 rfl rfl)
theorem dJ24_appendNull_63 : decode cJ24_appendNull 63 = .ok (.iload_n 1, 1) := dk_27 (dk_at dksJ24_appendNull_2 15 rfl rfl)
theorem dJ24_appendNull_64 : decode cJ24_appendNull 64 = .ok (.bipush 110, 2) := dk_16 110 (dk_at dksJ24_appendNull_2 16 rfl rfl)
theorem dJ24_appendNull_66 : decode cJ24_appendNull 66 = .ok (.bipush 117, 2) := dk_16 117 (dk_at dksJ24_appendNull_2 18 rfl rfl)
theorem dJ24_appendNull_68 : decode cJ24_appendNull 68 = .ok (.bipush 108, 2) := dk_16 108 (dk_at dksJ24_appendNull_2 20 rfl rfl)
theorem dJ24_appendNull_70 : decode cJ24_appendNull 70 = .ok (.bipush 108, 2) := dk_16 108 (dk_at dksJ24_appendNull_2 22 rfl rfl)
theorem dJ24_appendNull_72 : decode cJ24_appendNull 72 = .ok (.invokestatic 226, 3) := dk_184 0 226 (dk_at dksJ24_appendNull_3 0 rfl rfl)
theorem dJ24_appendNull_75 : decode cJ24_appendNull 75 = .ok (.istore_n 1, 1) := dk_60 (dk_at dksJ24_appendNull_3 3 rfl rfl)
theorem dJ24_appendNull_76 : decode cJ24_appendNull 76 = .ok (.aload_n 0, 1) := dk_42 (dk_at dksJ24_appendNull_3 4 rfl rfl)
theorem dJ24_appendNull_77 : decode cJ24_appendNull 77 = .ok (.iload_n 1, 1) := dk_27 (dk_at dksJ24_appendNull_3 5 rfl rfl)
theorem dJ24_appendNull_78 : decode cJ24_appendNull 78 = .ok (.putfield 79, 3) := dk_181 0 79 (dk_at dksJ24_appendNull_3 6 rfl rfl)
theorem dJ24_appendNull_81 : decode cJ24_appendNull 81 = .ok (.aload_n 0, 1) := dk_42 (dk_at dksJ24_appendNull_3 9 rfl rfl)
theorem dJ24_appendNull_82 : decode cJ24_appendNull 82 = .ok (.areturn, 1) := dk_176 (dk_at dksJ24_appendNull_3 10 rfl rfl)
abbrev cJ24_ensureCapacityInternal : ByteArray := prog_11_method_9_code
def yJ24_ensureCapacityInternal : MethodName := ⟨RJ24, "ensureCapacityInternal", "(I)V"⟩
def dkwJ24_ensureCapacityInternal_1 : List UInt8 := [182, 0, 104, 42, 180, 0, 22, 120, 184, 0, 108, 181, 0, 15, 177]
abbrev dktJ24_ensureCapacityInternal_1 : List UInt8 := dkwJ24_ensureCapacityInternal_1 ++ []
def dkwJ24_ensureCapacityInternal_0 : List UInt8 := [42, 180, 0, 15, 190, 42, 180, 0, 22, 122, 61, 27, 28, 100, 158, 0, 24, 42, 42, 180, 0, 15, 42, 27]
abbrev dktJ24_ensureCapacityInternal_0 : List UInt8 := dkwJ24_ensureCapacityInternal_0 ++ dktJ24_ensureCapacityInternal_1
theorem dksJ24_ensureCapacityInternal_0 : cJ24_ensureCapacityInternal.data.toList.drop 0 = dktJ24_ensureCapacityInternal_0 := by decide +kernel
theorem dksJ24_ensureCapacityInternal_1 : cJ24_ensureCapacityInternal.data.toList.drop 24 = dktJ24_ensureCapacityInternal_1 := dk_seg dksJ24_ensureCapacityInternal_0 24 rfl rfl
theorem dJ24_ensureCapacityInternal_0 : decode cJ24_ensureCapacityInternal 0 = .ok (.aload_n 0, 1) := dk_42 (dk_at dksJ24_ensureCapacityInternal_0 0 rfl rfl)
theorem dJ24_ensureCapacityInternal_1 : decode cJ24_ensureCapacityInternal 1 = .ok (.getfield 15, 3) := dk_180 0 15 (dk_at dksJ24_ensureCapacityInternal_0 1 rfl rfl)
theorem dJ24_ensureCapacityInternal_4 : decode cJ24_ensureCapacityInternal 4 = .ok (.arraylength, 1) := dk_190 (dk_at dksJ24_ensureCapacityInternal_0 4 rfl rfl)
theorem dJ24_ensureCapacityInternal_5 : decode cJ24_ensureCapacityInternal 5 = .ok (.aload_n 0, 1) := dk_42 (dk_at dksJ24_ensureCapacityInternal_0 5 rfl rfl)
theorem dJ24_ensureCapacityInternal_6 : decode cJ24_ensureCapacityInternal 6 = .ok (.getfield 22, 3) := dk_180 0 22 (dk_at dksJ24_ensureCapacityInternal_0 6 rfl rfl)
theorem dJ24_ensureCapacityInternal_9 : decode cJ24_ensureCapacityInternal 9 = .ok (.ishr, 1) := dk_122 (dk_at dksJ24_ensureCapacityInternal_0 9 rfl rfl)
theorem dJ24_ensureCapacityInternal_10 : decode cJ24_ensureCapacityInternal 10 = .ok (.istore_n 2, 1) := dk_61 (dk_at dksJ24_ensureCapacityInternal_0 10 rfl rfl)
theorem dJ24_ensureCapacityInternal_11 : decode cJ24_ensureCapacityInternal 11 = .ok (.iload_n 1, 1) := dk_27 (dk_at dksJ24_ensureCapacityInternal_0 11 rfl rfl)
theorem dJ24_ensureCapacityInternal_12 : decode cJ24_ensureCapacityInternal 12 = .ok (.iload_n 2, 1) := dk_28 (dk_at dksJ24_ensureCapacityInternal_0 12 rfl rfl)
theorem dJ24_ensureCapacityInternal_13 : decode cJ24_ensureCapacityInternal 13 = .ok (.isub, 1) := dk_100 (dk_at dksJ24_ensureCapacityInternal_0 13 rfl rfl)
theorem dJ24_ensureCapacityInternal_14 : decode cJ24_ensureCapacityInternal 14 = .ok (.ifCond .le 24, 3) := dk_158 0 24 (dk_at dksJ24_ensureCapacityInternal_0 14 rfl rfl)
theorem dJ24_ensureCapacityInternal_17 : decode cJ24_ensureCapacityInternal 17 = .ok (.aload_n 0, 1) := dk_42 (dk_at dksJ24_ensureCapacityInternal_0 17 rfl rfl)
theorem dJ24_ensureCapacityInternal_18 : decode cJ24_ensureCapacityInternal 18 = .ok (.aload_n 0, 1) := dk_42 (dk_at dksJ24_ensureCapacityInternal_0 18 rfl rfl)
theorem dJ24_ensureCapacityInternal_19 : decode cJ24_ensureCapacityInternal 19 = .ok (.getfield 15, 3) := dk_180 0 15 (dk_at dksJ24_ensureCapacityInternal_0 19 rfl rfl)
theorem dJ24_ensureCapacityInternal_22 : decode cJ24_ensureCapacityInternal 22 = .ok (.aload_n 0, 1) := dk_42 (dk_at dksJ24_ensureCapacityInternal_0 22 rfl rfl)
theorem dJ24_ensureCapacityInternal_23 : decode cJ24_ensureCapacityInternal 23 = .ok (.iload_n 1, 1) := dk_27 (dk_at dksJ24_ensureCapacityInternal_0 23 rfl rfl)
theorem dJ24_ensureCapacityInternal_24 : decode cJ24_ensureCapacityInternal 24 = .ok (.invokevirtual 104, 3) := dk_182 0 104 (dk_at dksJ24_ensureCapacityInternal_1 0 rfl rfl)
theorem dJ24_ensureCapacityInternal_27 : decode cJ24_ensureCapacityInternal 27 = .ok (.aload_n 0, 1) := dk_42 (dk_at dksJ24_ensureCapacityInternal_1 3 rfl rfl)
theorem dJ24_ensureCapacityInternal_28 : decode cJ24_ensureCapacityInternal 28 = .ok (.getfield 22, 3) := dk_180 0 22 (dk_at dksJ24_ensureCapacityInternal_1 4 rfl rfl)
theorem dJ24_ensureCapacityInternal_31 : decode cJ24_ensureCapacityInternal 31 = .ok (.ishl, 1) := dk_120 (dk_at dksJ24_ensureCapacityInternal_1 7 rfl rfl)
theorem dJ24_ensureCapacityInternal_32 : decode cJ24_ensureCapacityInternal 32 = .ok (.invokestatic 108, 3) := dk_184 0 108 (dk_at dksJ24_ensureCapacityInternal_1 8 rfl rfl)
theorem dJ24_ensureCapacityInternal_35 : decode cJ24_ensureCapacityInternal 35 = .ok (.putfield 15, 3) := dk_181 0 15 (dk_at dksJ24_ensureCapacityInternal_1 11 rfl rfl)
theorem dJ24_ensureCapacityInternal_38 : decode cJ24_ensureCapacityInternal 38 = .ok (.return_, 1) := dk_177 (dk_at dksJ24_ensureCapacityInternal_1 14 rfl rfl)
abbrev cJ24_newCapacity : ByteArray := prog_11_method_10_code
def yJ24_newCapacity : MethodName := ⟨RJ24, "newCapacity", "(I)I"⟩
def dkwJ24_newCapacity_2 : List UInt8 := [183, 0, 124, 191, 21, 5, 42, 180, 0, 22, 122, 172]
abbrev dktJ24_newCapacity_2 : List UInt8 := dkwJ24_newCapacity_2 ++ []
def dkwJ24_newCapacity_1 : List UInt8 := [180, 0, 22, 120, 96, 184, 0, 114, 54, 5, 21, 5, 18, 39, 160, 0, 13, 187, 0, 120, 89, 18, 122]
abbrev dktJ24_newCapacity_1 : List UInt8 := dkwJ24_newCapacity_1 ++ dktJ24_newCapacity_2
def dkwJ24_newCapacity_0 : List UInt8 := [42, 180, 0, 15, 190, 61, 27, 42, 180, 0, 22, 120, 62, 29, 28, 100, 54, 4, 28, 21, 4, 28, 5, 42]
abbrev dktJ24_newCapacity_0 : List UInt8 := dkwJ24_newCapacity_0 ++ dktJ24_newCapacity_1
theorem dksJ24_newCapacity_0 : cJ24_newCapacity.data.toList.drop 0 = dktJ24_newCapacity_0 := by decide +kernel
theorem dksJ24_newCapacity_1 : cJ24_newCapacity.data.toList.drop 24 = dktJ24_newCapacity_1 := dk_seg dksJ24_newCapacity_0 24 rfl rfl
theorem dksJ24_newCapacity_2 : cJ24_newCapacity.data.toList.drop 47 = dktJ24_newCapacity_2 := dk_seg dksJ24_newCapacity_1 23 rfl rfl
theorem dJ24_newCapacity_0 : decode cJ24_newCapacity 0 = .ok (.aload_n 0, 1) := dk_42 (dk_at dksJ24_newCapacity_0 0 rfl rfl)
theorem dJ24_newCapacity_1 : decode cJ24_newCapacity 1 = .ok (.getfield 15, 3) := dk_180 0 15 (dk_at dksJ24_newCapacity_0 1 rfl rfl)
theorem dJ24_newCapacity_4 : decode cJ24_newCapacity 4 = .ok (.arraylength, 1) := dk_190 (dk_at dksJ24_newCapacity_0 4 rfl rfl)
theorem dJ24_newCapacity_5 : decode cJ24_newCapacity 5 = .ok (.istore_n 2, 1) := dk_61 (dk_at dksJ24_newCapacity_0 5 rfl rfl)
theorem dJ24_newCapacity_6 : decode cJ24_newCapacity 6 = .ok (.iload_n 1, 1) := dk_27 (dk_at dksJ24_newCapacity_0 6 rfl rfl)
theorem dJ24_newCapacity_7 : decode cJ24_newCapacity 7 = .ok (.aload_n 0, 1) := dk_42 (dk_at dksJ24_newCapacity_0 7 rfl rfl)
theorem dJ24_newCapacity_8 : decode cJ24_newCapacity 8 = .ok (.getfield 22, 3) := dk_180 0 22 (dk_at dksJ24_newCapacity_0 8 rfl rfl)
theorem dJ24_newCapacity_11 : decode cJ24_newCapacity 11 = .ok (.ishl, 1) := dk_120 (dk_at dksJ24_newCapacity_0 11 rfl rfl)
theorem dJ24_newCapacity_12 : decode cJ24_newCapacity 12 = .ok (.istore_n 3, 1) := dk_62 (dk_at dksJ24_newCapacity_0 12 rfl rfl)
theorem dJ24_newCapacity_13 : decode cJ24_newCapacity 13 = .ok (.iload_n 3, 1) := dk_29 (dk_at dksJ24_newCapacity_0 13 rfl rfl)
theorem dJ24_newCapacity_14 : decode cJ24_newCapacity 14 = .ok (.iload_n 2, 1) := dk_28 (dk_at dksJ24_newCapacity_0 14 rfl rfl)
theorem dJ24_newCapacity_15 : decode cJ24_newCapacity 15 = .ok (.isub, 1) := dk_100 (dk_at dksJ24_newCapacity_0 15 rfl rfl)
theorem dJ24_newCapacity_16 : decode cJ24_newCapacity 16 = .ok (.istore 4, 2) := dk_54 4 (dk_at dksJ24_newCapacity_0 16 rfl rfl)
theorem dJ24_newCapacity_18 : decode cJ24_newCapacity 18 = .ok (.iload_n 2, 1) := dk_28 (dk_at dksJ24_newCapacity_0 18 rfl rfl)
theorem dJ24_newCapacity_19 : decode cJ24_newCapacity 19 = .ok (.iload 4, 2) := dk_21 4 (dk_at dksJ24_newCapacity_0 19 rfl rfl)
theorem dJ24_newCapacity_21 : decode cJ24_newCapacity 21 = .ok (.iload_n 2, 1) := dk_28 (dk_at dksJ24_newCapacity_0 21 rfl rfl)
theorem dJ24_newCapacity_22 : decode cJ24_newCapacity 22 = .ok (.iconst 2, 1) := dk_5 (dk_at dksJ24_newCapacity_0 22 rfl rfl)
theorem dJ24_newCapacity_23 : decode cJ24_newCapacity 23 = .ok (.aload_n 0, 1) := dk_42 (dk_at dksJ24_newCapacity_0 23 rfl rfl)
theorem dJ24_newCapacity_24 : decode cJ24_newCapacity 24 = .ok (.getfield 22, 3) := dk_180 0 22 (dk_at dksJ24_newCapacity_1 0 rfl rfl)
theorem dJ24_newCapacity_27 : decode cJ24_newCapacity 27 = .ok (.ishl, 1) := dk_120 (dk_at dksJ24_newCapacity_1 3 rfl rfl)
theorem dJ24_newCapacity_28 : decode cJ24_newCapacity 28 = .ok (.iadd, 1) := dk_96 (dk_at dksJ24_newCapacity_1 4 rfl rfl)
theorem dJ24_newCapacity_29 : decode cJ24_newCapacity 29 = .ok (.invokestatic 114, 3) := dk_184 0 114 (dk_at dksJ24_newCapacity_1 5 rfl rfl)
theorem dJ24_newCapacity_32 : decode cJ24_newCapacity 32 = .ok (.istore 5, 2) := dk_54 5 (dk_at dksJ24_newCapacity_1 8 rfl rfl)
theorem dJ24_newCapacity_34 : decode cJ24_newCapacity 34 = .ok (.iload 5, 2) := dk_21 5 (dk_at dksJ24_newCapacity_1 10 rfl rfl)
theorem dJ24_newCapacity_36 : decode cJ24_newCapacity 36 = .ok (.ldc 39, 2) := dk_18 39 (dk_at dksJ24_newCapacity_1 12 rfl rfl)
theorem dJ24_newCapacity_38 : decode cJ24_newCapacity 38 = .ok (.if_icmp .ne 13, 3) := dk_160 0 13 (dk_at dksJ24_newCapacity_1 14 rfl rfl)
theorem dJ24_newCapacity_41 : decode cJ24_newCapacity 41 = .ok (.new 120, 3) := dk_187 0 120 (dk_at dksJ24_newCapacity_1 17 rfl rfl)
theorem dJ24_newCapacity_44 : decode cJ24_newCapacity 44 = .ok (.dup, 1) := dk_89 (dk_at dksJ24_newCapacity_1 20 rfl rfl)
theorem dJ24_newCapacity_45 : decode cJ24_newCapacity 45 = .ok (.ldc 122, 2) := dk_18 122 (dk_at dksJ24_newCapacity_1 21 rfl rfl)
theorem dJ24_newCapacity_47 : decode cJ24_newCapacity 47 = .ok (.invokespecial 124, 3) := dk_183 0 124 (dk_at dksJ24_newCapacity_2 0 rfl rfl)
theorem dJ24_newCapacity_50 : decode cJ24_newCapacity 50 = .ok (.athrow, 1) := dk_191 (dk_at dksJ24_newCapacity_2 3 rfl rfl)
theorem dJ24_newCapacity_51 : decode cJ24_newCapacity 51 = .ok (.iload 5, 2) := dk_21 5 (dk_at dksJ24_newCapacity_2 4 rfl rfl)
theorem dJ24_newCapacity_53 : decode cJ24_newCapacity 53 = .ok (.aload_n 0, 1) := dk_42 (dk_at dksJ24_newCapacity_2 6 rfl rfl)
theorem dJ24_newCapacity_54 : decode cJ24_newCapacity 54 = .ok (.getfield 22, 3) := dk_180 0 22 (dk_at dksJ24_newCapacity_2 7 rfl rfl)
theorem dJ24_newCapacity_57 : decode cJ24_newCapacity 57 = .ok (.ishr, 1) := dk_122 (dk_at dksJ24_newCapacity_2 10 rfl rfl)
theorem dJ24_newCapacity_58 : decode cJ24_newCapacity 58 = .ok (.ireturn, 1) := dk_172 (dk_at dksJ24_newCapacity_2 11 rfl rfl)
abbrev cJ24_isLatin1 : ByteArray := prog_11_method_68_code
def yJ24_isLatin1 : MethodName := ⟨RJ24, "isLatin1", "()Z"⟩
def dkwJ24_isLatin1_0 : List UInt8 := [178, 0, 18, 153, 0, 14, 42, 180, 0, 22, 154, 0, 7, 4, 167, 0, 4, 3, 172]
abbrev dktJ24_isLatin1_0 : List UInt8 := dkwJ24_isLatin1_0 ++ []
theorem dksJ24_isLatin1_0 : cJ24_isLatin1.data.toList.drop 0 = dktJ24_isLatin1_0 := by decide +kernel
theorem dJ24_isLatin1_0 : decode cJ24_isLatin1 0 = .ok (.getstatic 18, 3) := dk_178 0 18 (dk_at dksJ24_isLatin1_0 0 rfl rfl)
theorem dJ24_isLatin1_3 : decode cJ24_isLatin1 3 = .ok (.ifCond .eq 14, 3) := dk_153 0 14 (dk_at dksJ24_isLatin1_0 3 rfl rfl)
theorem dJ24_isLatin1_6 : decode cJ24_isLatin1 6 = .ok (.aload_n 0, 1) := dk_42 (dk_at dksJ24_isLatin1_0 6 rfl rfl)
theorem dJ24_isLatin1_7 : decode cJ24_isLatin1 7 = .ok (.getfield 22, 3) := dk_180 0 22 (dk_at dksJ24_isLatin1_0 7 rfl rfl)
theorem dJ24_isLatin1_10 : decode cJ24_isLatin1 10 = .ok (.ifCond .ne 7, 3) := dk_154 0 7 (dk_at dksJ24_isLatin1_0 10 rfl rfl)
theorem dJ24_isLatin1_13 : decode cJ24_isLatin1 13 = .ok (.iconst 1, 1) := dk_4 (dk_at dksJ24_isLatin1_0 13 rfl rfl)
theorem dJ24_isLatin1_14 : decode cJ24_isLatin1 14 = .ok (.goto 4, 3) := dk_167 0 4 (dk_at dksJ24_isLatin1_0 14 rfl rfl)
theorem dJ24_isLatin1_17 : decode cJ24_isLatin1 17 = .ok (.iconst 0, 1) := dk_3 (dk_at dksJ24_isLatin1_0 17 rfl rfl)
theorem dJ24_isLatin1_18 : decode cJ24_isLatin1 18 = .ok (.ireturn, 1) := dk_172 (dk_at dksJ24_isLatin1_0 18 rfl rfl)
abbrev cJ24_putStringAt : ByteArray := prog_11_method_73_code
def yJ24_putStringAt : MethodName := ⟨RJ24, "putStringAt", "(ILjava/lang/String;)V"⟩
def dkwJ24_putStringAt_0 : List UInt8 := [42, 44, 182, 1, 141, 44, 42, 180, 0, 15, 27, 42, 180, 0, 22, 182, 1, 143, 177]
abbrev dktJ24_putStringAt_0 : List UInt8 := dkwJ24_putStringAt_0 ++ []
theorem dksJ24_putStringAt_0 : cJ24_putStringAt.data.toList.drop 0 = dktJ24_putStringAt_0 := by decide +kernel
theorem dJ24_putStringAt_0 : decode cJ24_putStringAt 0 = .ok (.aload_n 0, 1) := dk_42 (dk_at dksJ24_putStringAt_0 0 rfl rfl)
theorem dJ24_putStringAt_1 : decode cJ24_putStringAt 1 = .ok (.aload_n 2, 1) := dk_44 (dk_at dksJ24_putStringAt_0 1 rfl rfl)
theorem dJ24_putStringAt_2 : decode cJ24_putStringAt 2 = .ok (.invokevirtual 397, 3) := dk_182 1 141 (dk_at dksJ24_putStringAt_0 2 rfl rfl)
theorem dJ24_putStringAt_5 : decode cJ24_putStringAt 5 = .ok (.aload_n 2, 1) := dk_44 (dk_at dksJ24_putStringAt_0 5 rfl rfl)
theorem dJ24_putStringAt_6 : decode cJ24_putStringAt 6 = .ok (.aload_n 0, 1) := dk_42 (dk_at dksJ24_putStringAt_0 6 rfl rfl)
theorem dJ24_putStringAt_7 : decode cJ24_putStringAt 7 = .ok (.getfield 15, 3) := dk_180 0 15 (dk_at dksJ24_putStringAt_0 7 rfl rfl)
theorem dJ24_putStringAt_10 : decode cJ24_putStringAt 10 = .ok (.iload_n 1, 1) := dk_27 (dk_at dksJ24_putStringAt_0 10 rfl rfl)
theorem dJ24_putStringAt_11 : decode cJ24_putStringAt 11 = .ok (.aload_n 0, 1) := dk_42 (dk_at dksJ24_putStringAt_0 11 rfl rfl)
theorem dJ24_putStringAt_12 : decode cJ24_putStringAt 12 = .ok (.getfield 22, 3) := dk_180 0 22 (dk_at dksJ24_putStringAt_0 12 rfl rfl)
theorem dJ24_putStringAt_15 : decode cJ24_putStringAt 15 = .ok (.invokevirtual 399, 3) := dk_182 1 143 (dk_at dksJ24_putStringAt_0 15 rfl rfl)
theorem dJ24_putStringAt_18 : decode cJ24_putStringAt 18 = .ok (.return_, 1) := dk_177 (dk_at dksJ24_putStringAt_0 18 rfl rfl)
abbrev cJ24_inflateIfNeededFor : ByteArray := prog_11_method_71_code
def yJ24_inflateIfNeededFor : MethodName := ⟨RJ24, "inflateIfNeededFor", "(Ljava/lang/String;)V"⟩
def dkwJ24_inflateIfNeededFor_0 : List UInt8 := [178, 0, 18, 153, 0, 18, 42, 180, 0, 22, 43, 182, 0, 40, 159, 0, 7, 42, 182, 0, 195, 177]
abbrev dktJ24_inflateIfNeededFor_0 : List UInt8 := dkwJ24_inflateIfNeededFor_0 ++ []
theorem dksJ24_inflateIfNeededFor_0 : cJ24_inflateIfNeededFor.data.toList.drop 0 = dktJ24_inflateIfNeededFor_0 := by decide +kernel
theorem dJ24_inflateIfNeededFor_0 : decode cJ24_inflateIfNeededFor 0 = .ok (.getstatic 18, 3) := dk_178 0 18 (dk_at dksJ24_inflateIfNeededFor_0 0 rfl rfl)
theorem dJ24_inflateIfNeededFor_3 : decode cJ24_inflateIfNeededFor 3 = .ok (.ifCond .eq 18, 3) := dk_153 0 18 (dk_at dksJ24_inflateIfNeededFor_0 3 rfl rfl)
theorem dJ24_inflateIfNeededFor_6 : decode cJ24_inflateIfNeededFor 6 = .ok (.aload_n 0, 1) := dk_42 (dk_at dksJ24_inflateIfNeededFor_0 6 rfl rfl)
theorem dJ24_inflateIfNeededFor_7 : decode cJ24_inflateIfNeededFor 7 = .ok (.getfield 22, 3) := dk_180 0 22 (dk_at dksJ24_inflateIfNeededFor_0 7 rfl rfl)
theorem dJ24_inflateIfNeededFor_10 : decode cJ24_inflateIfNeededFor 10 = .ok (.aload_n 1, 1) := dk_43 (dk_at dksJ24_inflateIfNeededFor_0 10 rfl rfl)
theorem dJ24_inflateIfNeededFor_11 : decode cJ24_inflateIfNeededFor 11 = .ok (.invokevirtual 40, 3) := dk_182 0 40 (dk_at dksJ24_inflateIfNeededFor_0 11 rfl rfl)
theorem dJ24_inflateIfNeededFor_14 : decode cJ24_inflateIfNeededFor 14 = .ok (.if_icmp .eq 7, 3) := dk_159 0 7 (dk_at dksJ24_inflateIfNeededFor_0 14 rfl rfl)
theorem dJ24_inflateIfNeededFor_17 : decode cJ24_inflateIfNeededFor 17 = .ok (.aload_n 0, 1) := dk_42 (dk_at dksJ24_inflateIfNeededFor_0 17 rfl rfl)
theorem dJ24_inflateIfNeededFor_18 : decode cJ24_inflateIfNeededFor 18 = .ok (.invokevirtual 195, 3) := dk_182 0 195 (dk_at dksJ24_inflateIfNeededFor_0 18 rfl rfl)
theorem dJ24_inflateIfNeededFor_21 : decode cJ24_inflateIfNeededFor 21 = .ok (.return_, 1) := dk_177 (dk_at dksJ24_inflateIfNeededFor_0 21 rfl rfl)
abbrev cJ24_inflate : ByteArray := prog_11_method_11_code
def yJ24_inflate : MethodName := ⟨RJ24, "inflate", "()V"⟩
def dkwJ24_inflate_1 : List UInt8 := [42, 180, 0, 79, 184, 0, 125, 42, 43, 181, 0, 15, 42, 4, 181, 0, 22, 177]
abbrev dktJ24_inflate_1 : List UInt8 := dkwJ24_inflate_1 ++ []
def dkwJ24_inflate_0 : List UInt8 := [42, 182, 0, 83, 154, 0, 4, 177, 42, 180, 0, 15, 190, 184, 0, 26, 76, 42, 180, 0, 15, 3, 43, 3]
abbrev dktJ24_inflate_0 : List UInt8 := dkwJ24_inflate_0 ++ dktJ24_inflate_1
theorem dksJ24_inflate_0 : cJ24_inflate.data.toList.drop 0 = dktJ24_inflate_0 := by decide +kernel
theorem dksJ24_inflate_1 : cJ24_inflate.data.toList.drop 24 = dktJ24_inflate_1 := dk_seg dksJ24_inflate_0 24 rfl rfl
theorem dJ24_inflate_0 : decode cJ24_inflate 0 = .ok (.aload_n 0, 1) := dk_42 (dk_at dksJ24_inflate_0 0 rfl rfl)
theorem dJ24_inflate_1 : decode cJ24_inflate 1 = .ok (.invokevirtual 83, 3) := dk_182 0 83 (dk_at dksJ24_inflate_0 1 rfl rfl)
theorem dJ24_inflate_4 : decode cJ24_inflate 4 = .ok (.ifCond .ne 4, 3) := dk_154 0 4 (dk_at dksJ24_inflate_0 4 rfl rfl)
theorem dJ24_inflate_7 : decode cJ24_inflate 7 = .ok (.return_, 1) := dk_177 (dk_at dksJ24_inflate_0 7 rfl rfl)
theorem dJ24_inflate_8 : decode cJ24_inflate 8 = .ok (.aload_n 0, 1) := dk_42 (dk_at dksJ24_inflate_0 8 rfl rfl)
theorem dJ24_inflate_9 : decode cJ24_inflate 9 = .ok (.getfield 15, 3) := dk_180 0 15 (dk_at dksJ24_inflate_0 9 rfl rfl)
theorem dJ24_inflate_12 : decode cJ24_inflate 12 = .ok (.arraylength, 1) := dk_190 (dk_at dksJ24_inflate_0 12 rfl rfl)
theorem dJ24_inflate_13 : decode cJ24_inflate 13 = .ok (.invokestatic 26, 3) := dk_184 0 26 (dk_at dksJ24_inflate_0 13 rfl rfl)
theorem dJ24_inflate_16 : decode cJ24_inflate 16 = .ok (.astore_n 1, 1) := dk_76 (dk_at dksJ24_inflate_0 16 rfl rfl)
theorem dJ24_inflate_17 : decode cJ24_inflate 17 = .ok (.aload_n 0, 1) := dk_42 (dk_at dksJ24_inflate_0 17 rfl rfl)
theorem dJ24_inflate_18 : decode cJ24_inflate 18 = .ok (.getfield 15, 3) := dk_180 0 15 (dk_at dksJ24_inflate_0 18 rfl rfl)
theorem dJ24_inflate_21 : decode cJ24_inflate 21 = .ok (.iconst 0, 1) := dk_3 (dk_at dksJ24_inflate_0 21 rfl rfl)
theorem dJ24_inflate_22 : decode cJ24_inflate 22 = .ok (.aload_n 1, 1) := dk_43 (dk_at dksJ24_inflate_0 22 rfl rfl)
theorem dJ24_inflate_23 : decode cJ24_inflate 23 = .ok (.iconst 0, 1) := dk_3 (dk_at dksJ24_inflate_0 23 rfl rfl)
theorem dJ24_inflate_24 : decode cJ24_inflate 24 = .ok (.aload_n 0, 1) := dk_42 (dk_at dksJ24_inflate_1 0 rfl rfl)
theorem dJ24_inflate_25 : decode cJ24_inflate 25 = .ok (.getfield 79, 3) := dk_180 0 79 (dk_at dksJ24_inflate_1 1 rfl rfl)
theorem dJ24_inflate_28 : decode cJ24_inflate 28 = .ok (.invokestatic 125, 3) := dk_184 0 125 (dk_at dksJ24_inflate_1 4 rfl rfl)
theorem dJ24_inflate_31 : decode cJ24_inflate 31 = .ok (.aload_n 0, 1) := dk_42 (dk_at dksJ24_inflate_1 7 rfl rfl)
theorem dJ24_inflate_32 : decode cJ24_inflate 32 = .ok (.aload_n 1, 1) := dk_43 (dk_at dksJ24_inflate_1 8 rfl rfl)
theorem dJ24_inflate_33 : decode cJ24_inflate 33 = .ok (.putfield 15, 3) := dk_181 0 15 (dk_at dksJ24_inflate_1 9 rfl rfl)
theorem dJ24_inflate_36 : decode cJ24_inflate 36 = .ok (.aload_n 0, 1) := dk_42 (dk_at dksJ24_inflate_1 12 rfl rfl)
theorem dJ24_inflate_37 : decode cJ24_inflate 37 = .ok (.iconst 1, 1) := dk_4 (dk_at dksJ24_inflate_1 13 rfl rfl)
theorem dJ24_inflate_38 : decode cJ24_inflate 38 = .ok (.putfield 22, 3) := dk_181 0 22 (dk_at dksJ24_inflate_1 14 rfl rfl)
theorem dJ24_inflate_41 : decode cJ24_inflate 41 = .ok (.return_, 1) := dk_177 (dk_at dksJ24_inflate_1 17 rfl rfl)
abbrev cJ24_getValue : ByteArray := prog_11_method_64_code
def yJ24_getValue : MethodName := ⟨RJ24, "getValue", "()[B"⟩
theorem dJ24_getValue_0 : decode cJ24_getValue 0 = .ok (.aload_n 0, 1) := by decide +kernel
theorem dJ24_getValue_1 : decode cJ24_getValue 1 = .ok (.getfield 15, 3) := by decide +kernel
theorem dJ24_getValue_4 : decode cJ24_getValue 4 = .ok (.areturn, 1) := by decide +kernel
abbrev cJ24_length : ByteArray := prog_11_method_6_code
def yJ24_length : MethodName := ⟨RJ24, "length", "()I"⟩
theorem dJ24_length_0 : decode cJ24_length 0 = .ok (.aload_n 0, 1) := by decide +kernel
theorem dJ24_length_1 : decode cJ24_length 1 = .ok (.getfield 79, 3) := by decide +kernel
theorem dJ24_length_4 : decode cJ24_length 4 = .ok (.ireturn, 1) := by decide +kernel
theorem q149 : (Jvm.Cond.initialized "java/lang/AbstractStringBuilder") ∈ lw_all := lw_g (lw_at lw_m1 32 rfl) rfl
theorem q1211 : (Jvm.Cond.instanceMethod ({ cls := "java/lang/AbstractStringBuilder", name := "<init>", desc := "(I)V" } : Jvm.MethodName)) ∈ lw_all := lw_g (lw_at lw_m5 134 rfl) rfl
theorem q1212 : (Jvm.Cond.code ({ cls := "java/lang/AbstractStringBuilder", name := "<init>", desc := "(I)V" } : Jvm.MethodName) prog_11_method_2_code (2 : Nat) (Option.none : Option Jvm.ClassFile.FieldType)) ∈ lw_all := lw_g (lw_at lw_m5 135 rfl) rfl
theorem q1213 : (Jvm.Cond.methodLink "java/lang/AbstractStringBuilder" (3 : Nat) ({ cls := "java/lang/Object", name := "<init>", desc := "()V" } : Jvm.MethodName)) ∈ lw_all := lw_g (lw_at lw_m5 136 rfl) rfl
theorem q1214 : (Jvm.Cond.fieldLink "java/lang/AbstractStringBuilder" (18 : Nat) "java/lang/String" "COMPACT_STRINGS" "Z") ∈ lw_all := lw_g (lw_at lw_m5 137 rfl) rfl
theorem q1215 : (Jvm.Cond.methodLink "java/lang/AbstractStringBuilder" (26 : Nat) ({ cls := "java/lang/StringUTF16", name := "newBytesFor", desc := "(I)[B" } : Jvm.MethodName)) ∈ lw_all := lw_g (lw_at lw_m5 138 rfl) rfl
theorem q1222 : (Jvm.Cond.fieldLink "java/lang/AbstractStringBuilder" (15 : Nat) "java/lang/AbstractStringBuilder" "value" "[B") ∈ lw_all := lw_g (lw_at lw_m5 145 rfl) rfl
theorem q1223 : (Jvm.Cond.fieldLink "java/lang/AbstractStringBuilder" (22 : Nat) "java/lang/AbstractStringBuilder" "coder" "B") ∈ lw_all := lw_g (lw_at lw_m5 146 rfl) rfl
theorem q1225 : (Jvm.Cond.fieldLink "java/lang/AbstractStringBuilder" (79 : Nat) "java/lang/AbstractStringBuilder" "count" "I") ∈ lw_all := lw_g (lw_at lw_m5 148 rfl) rfl
theorem q1227 : (Jvm.Cond.soleField "java/lang/AbstractStringBuilder" "value") ∈ lw_all := lw_g (lw_at lw_m5 150 rfl) rfl
theorem q1229 : (Jvm.Cond.soleField "java/lang/AbstractStringBuilder" "coder") ∈ lw_all := lw_g (lw_at lw_m5 152 rfl) rfl
theorem q1231 : (Jvm.Cond.soleField "java/lang/AbstractStringBuilder" "maybeLatin1") ∈ lw_all := lw_g (lw_at lw_m5 154 rfl) rfl
theorem q1233 : (Jvm.Cond.soleField "java/lang/AbstractStringBuilder" "count") ∈ lw_all := lw_g (lw_at lw_m5 156 rfl) rfl
theorem q1240 : (Jvm.Cond.instanceMethod ({ cls := "java/lang/AbstractStringBuilder", name := "append", desc := "(Ljava/lang/String;)Ljava/lang/AbstractStringBuilder;" } : Jvm.MethodName)) ∈ lw_all := lw_g (lw_at lw_m5 163 rfl) rfl
theorem q1241 : (Jvm.Cond.code ({ cls := "java/lang/AbstractStringBuilder", name := "append", desc := "(Ljava/lang/String;)Ljava/lang/AbstractStringBuilder;" } : Jvm.MethodName) prog_11_method_22_code (3 : Nat) (Option.some (Jvm.ClassFile.FieldType.object "java/lang/AbstractStringBuilder"))) ∈ lw_all := lw_g (lw_at lw_m5 164 rfl) rfl
theorem q1242 : (Jvm.Cond.methodLink "java/lang/AbstractStringBuilder" (204 : Nat) ({ cls := "java/lang/AbstractStringBuilder", name := "appendNull", desc := "()Ljava/lang/AbstractStringBuilder;" } : Jvm.MethodName)) ∈ lw_all := lw_g (lw_at lw_m5 165 rfl) rfl
theorem q1243 : (Jvm.Cond.privateMethod ({ cls := "java/lang/AbstractStringBuilder", name := "appendNull", desc := "()Ljava/lang/AbstractStringBuilder;" } : Jvm.MethodName)) ∈ lw_tbl := lw_at lw_m5 166 rfl
theorem q1244 : (Jvm.Cond.instanceMethod ({ cls := "java/lang/AbstractStringBuilder", name := "appendNull", desc := "()Ljava/lang/AbstractStringBuilder;" } : Jvm.MethodName)) ∈ lw_all := lw_g (lw_at lw_m5 167 rfl) rfl
theorem q1245 : (Jvm.Cond.code ({ cls := "java/lang/AbstractStringBuilder", name := "appendNull", desc := "()Ljava/lang/AbstractStringBuilder;" } : Jvm.MethodName) prog_11_method_26_code (3 : Nat) (Option.some (Jvm.ClassFile.FieldType.object "java/lang/AbstractStringBuilder"))) ∈ lw_all := lw_g (lw_at lw_m5 168 rfl) rfl
theorem q1246 : (Jvm.Cond.methodLink "java/lang/AbstractStringBuilder" (100 : Nat) ({ cls := "java/lang/AbstractStringBuilder", name := "ensureCapacityInternal", desc := "(I)V" } : Jvm.MethodName)) ∈ lw_all := lw_g (lw_at lw_m5 169 rfl) rfl
theorem q1247 : (Jvm.Cond.privateMethod ({ cls := "java/lang/AbstractStringBuilder", name := "ensureCapacityInternal", desc := "(I)V" } : Jvm.MethodName)) ∈ lw_tbl := lw_at lw_m5 170 rfl
theorem q1248 : (Jvm.Cond.instanceMethod ({ cls := "java/lang/AbstractStringBuilder", name := "ensureCapacityInternal", desc := "(I)V" } : Jvm.MethodName)) ∈ lw_all := lw_g (lw_at lw_m5 171 rfl) rfl
theorem q1249 : (Jvm.Cond.code ({ cls := "java/lang/AbstractStringBuilder", name := "ensureCapacityInternal", desc := "(I)V" } : Jvm.MethodName) prog_11_method_9_code (3 : Nat) (Option.none : Option Jvm.ClassFile.FieldType)) ∈ lw_all := lw_g (lw_at lw_m5 172 rfl) rfl
theorem q1250 : (Jvm.Cond.methodLink "java/lang/AbstractStringBuilder" (104 : Nat) ({ cls := "java/lang/AbstractStringBuilder", name := "newCapacity", desc := "(I)I" } : Jvm.MethodName)) ∈ lw_all := lw_g (lw_at lw_m5 173 rfl) rfl
theorem q1251 : (Jvm.Cond.privateMethod ({ cls := "java/lang/AbstractStringBuilder", name := "newCapacity", desc := "(I)I" } : Jvm.MethodName)) ∈ lw_tbl := lw_at lw_m5 174 rfl
theorem q1252 : (Jvm.Cond.instanceMethod ({ cls := "java/lang/AbstractStringBuilder", name := "newCapacity", desc := "(I)I" } : Jvm.MethodName)) ∈ lw_all := lw_g (lw_at lw_m5 175 rfl) rfl
theorem q1253 : (Jvm.Cond.code ({ cls := "java/lang/AbstractStringBuilder", name := "newCapacity", desc := "(I)I" } : Jvm.MethodName) prog_11_method_10_code (6 : Nat) (Option.some Jvm.ClassFile.FieldType.int)) ∈ lw_all := lw_g (lw_at lw_m5 176 rfl) rfl
theorem q1254 : (Jvm.Cond.methodLink "java/lang/AbstractStringBuilder" (114 : Nat) ({ cls := "jdk/internal/util/ArraysSupport", name := "newLength", desc := "(III)I" } : Jvm.MethodName)) ∈ lw_all := lw_g (lw_at lw_m5 177 rfl) rfl
theorem q1262 : (Jvm.Cond.constant "java/lang/AbstractStringBuilder" (39 : Nat) (2147483647 : Int32)) ∈ lw_all := lw_g (lw_at lw_m5 185 rfl) rfl
theorem q1263 : (Jvm.Cond.methodLink "java/lang/AbstractStringBuilder" (108 : Nat) ({ cls := "java/util/Arrays", name := "copyOf", desc := "([BI)[B" } : Jvm.MethodName)) ∈ lw_all := lw_g (lw_at lw_m5 186 rfl) rfl
theorem q1271 : (Jvm.Cond.methodLink "java/lang/AbstractStringBuilder" (83 : Nat) ({ cls := "java/lang/AbstractStringBuilder", name := "isLatin1", desc := "()Z" } : Jvm.MethodName)) ∈ lw_all := lw_g (lw_at lw_m5 194 rfl) rfl
theorem q1272 : (Jvm.Cond.instanceMethod ({ cls := "java/lang/AbstractStringBuilder", name := "isLatin1", desc := "()Z" } : Jvm.MethodName)) ∈ lw_all := lw_g (lw_at lw_m5 195 rfl) rfl
theorem q1273 : (Jvm.Cond.sameMethod "java/lang/AbstractStringBuilder" "java/lang/AbstractStringBuilder" "isLatin1" "()Z") ∈ lw_all := lw_g (lw_at lw_m5 196 rfl) rfl
theorem q1275 : (Jvm.Cond.code ({ cls := "java/lang/AbstractStringBuilder", name := "isLatin1", desc := "()Z" } : Jvm.MethodName) prog_11_method_68_code (1 : Nat) (Option.some Jvm.ClassFile.FieldType.boolean)) ∈ lw_all := lw_g (lw_at lw_m5 198 rfl) rfl
theorem q1276 : (Jvm.Cond.methodLink "java/lang/AbstractStringBuilder" (226 : Nat) ({ cls := "java/lang/StringUTF16", name := "putCharsAt", desc := "([BICCCC)I" } : Jvm.MethodName)) ∈ lw_all := lw_g (lw_at lw_m5 199 rfl) rfl
theorem q1282 : (Jvm.Cond.methodLink "java/lang/AbstractStringBuilder" (32 : Nat) ({ cls := "java/lang/String", name := "length", desc := "()I" } : Jvm.MethodName)) ∈ lw_all := lw_g (lw_at lw_m5 205 rfl) rfl
theorem q1283 : (Jvm.Cond.methodLink "java/lang/AbstractStringBuilder" (208 : Nat) ({ cls := "java/lang/AbstractStringBuilder", name := "putStringAt", desc := "(ILjava/lang/String;)V" } : Jvm.MethodName)) ∈ lw_all := lw_g (lw_at lw_m5 206 rfl) rfl
theorem q1284 : (Jvm.Cond.privateMethod ({ cls := "java/lang/AbstractStringBuilder", name := "putStringAt", desc := "(ILjava/lang/String;)V" } : Jvm.MethodName)) ∈ lw_tbl := lw_at lw_m5 207 rfl
theorem q1285 : (Jvm.Cond.instanceMethod ({ cls := "java/lang/AbstractStringBuilder", name := "putStringAt", desc := "(ILjava/lang/String;)V" } : Jvm.MethodName)) ∈ lw_all := lw_g (lw_at lw_m5 208 rfl) rfl
theorem q1286 : (Jvm.Cond.code ({ cls := "java/lang/AbstractStringBuilder", name := "putStringAt", desc := "(ILjava/lang/String;)V" } : Jvm.MethodName) prog_11_method_73_code (3 : Nat) (Option.none : Option Jvm.ClassFile.FieldType)) ∈ lw_all := lw_g (lw_at lw_m5 209 rfl) rfl
theorem q1287 : (Jvm.Cond.methodLink "java/lang/AbstractStringBuilder" (397 : Nat) ({ cls := "java/lang/AbstractStringBuilder", name := "inflateIfNeededFor", desc := "(Ljava/lang/String;)V" } : Jvm.MethodName)) ∈ lw_all := lw_g (lw_at lw_m5 210 rfl) rfl
theorem q1288 : (Jvm.Cond.privateMethod ({ cls := "java/lang/AbstractStringBuilder", name := "inflateIfNeededFor", desc := "(Ljava/lang/String;)V" } : Jvm.MethodName)) ∈ lw_tbl := lw_at lw_m5 211 rfl
theorem q1289 : (Jvm.Cond.instanceMethod ({ cls := "java/lang/AbstractStringBuilder", name := "inflateIfNeededFor", desc := "(Ljava/lang/String;)V" } : Jvm.MethodName)) ∈ lw_all := lw_g (lw_at lw_m5 212 rfl) rfl
theorem q1290 : (Jvm.Cond.code ({ cls := "java/lang/AbstractStringBuilder", name := "inflateIfNeededFor", desc := "(Ljava/lang/String;)V" } : Jvm.MethodName) prog_11_method_71_code (2 : Nat) (Option.none : Option Jvm.ClassFile.FieldType)) ∈ lw_all := lw_g (lw_at lw_m5 213 rfl) rfl
theorem q1291 : (Jvm.Cond.methodLink "java/lang/AbstractStringBuilder" (40 : Nat) ({ cls := "java/lang/String", name := "coder", desc := "()B" } : Jvm.MethodName)) ∈ lw_all := lw_g (lw_at lw_m5 214 rfl) rfl
theorem q1292 : (Jvm.Cond.methodLink "java/lang/AbstractStringBuilder" (195 : Nat) ({ cls := "java/lang/AbstractStringBuilder", name := "inflate", desc := "()V" } : Jvm.MethodName)) ∈ lw_all := lw_g (lw_at lw_m5 215 rfl) rfl
theorem q1293 : (Jvm.Cond.privateMethod ({ cls := "java/lang/AbstractStringBuilder", name := "inflate", desc := "()V" } : Jvm.MethodName)) ∈ lw_tbl := lw_at lw_m5 216 rfl
theorem q1294 : (Jvm.Cond.instanceMethod ({ cls := "java/lang/AbstractStringBuilder", name := "inflate", desc := "()V" } : Jvm.MethodName)) ∈ lw_all := lw_g (lw_at lw_m5 217 rfl) rfl
theorem q1295 : (Jvm.Cond.code ({ cls := "java/lang/AbstractStringBuilder", name := "inflate", desc := "()V" } : Jvm.MethodName) prog_11_method_11_code (2 : Nat) (Option.none : Option Jvm.ClassFile.FieldType)) ∈ lw_all := lw_g (lw_at lw_m5 218 rfl) rfl
theorem q1296 : (Jvm.Cond.methodLink "java/lang/AbstractStringBuilder" (125 : Nat) ({ cls := "java/lang/StringLatin1", name := "inflate", desc := "([BI[BII)V" } : Jvm.MethodName)) ∈ lw_all := lw_g (lw_at lw_m5 219 rfl) rfl
theorem q1311 : (Jvm.Cond.methodLink "java/lang/AbstractStringBuilder" (399 : Nat) ({ cls := "java/lang/String", name := "getBytes", desc := "([BIB)V" } : Jvm.MethodName)) ∈ lw_all := lw_g (lw_at lw_m5 234 rfl) rfl
theorem q1332 : (Jvm.Cond.instanceMethod ({ cls := "java/lang/AbstractStringBuilder", name := "getValue", desc := "()[B" } : Jvm.MethodName)) ∈ lw_all := lw_g (lw_at lw_m6 15 rfl) rfl
theorem q1333 : (Jvm.Cond.sameMethod "java/lang/AbstractStringBuilder" "java/lang/AbstractStringBuilder" "getValue" "()[B") ∈ lw_all := lw_g (lw_at lw_m6 16 rfl) rfl
theorem q1335 : (Jvm.Cond.code ({ cls := "java/lang/AbstractStringBuilder", name := "getValue", desc := "()[B" } : Jvm.MethodName) prog_11_method_64_code (1 : Nat) (Option.some (Jvm.ClassFile.FieldType.array Jvm.ClassFile.FieldType.byte))) ∈ lw_all := lw_g (lw_at lw_m6 18 rfl) rfl
theorem q1337 : (Jvm.Cond.instanceMethod ({ cls := "java/lang/AbstractStringBuilder", name := "length", desc := "()I" } : Jvm.MethodName)) ∈ lw_all := lw_g (lw_at lw_m6 20 rfl) rfl
theorem q1338 : (Jvm.Cond.sameMethod "java/lang/AbstractStringBuilder" "java/lang/AbstractStringBuilder" "length" "()I") ∈ lw_all := lw_g (lw_at lw_m6 21 rfl) rfl
theorem q1343 : (Jvm.Cond.code ({ cls := "java/lang/AbstractStringBuilder", name := "length", desc := "()I" } : Jvm.MethodName) prog_11_method_6_code (1 : Nat) (Option.some Jvm.ClassFile.FieldType.int)) ∈ lw_all := lw_g (lw_at lw_m6 26 rfl) rfl
theorem q2334 : (Jvm.Cond.sameMethod "java/lang/AbstractStringBuilder" "java/lang/AbstractStringBuilder" "append" "(Ljava/lang/String;)Ljava/lang/AbstractStringBuilder;") ∈ lw_all := lw_g (lw_at lw_m10 57 rfl) rfl
theorem q2335 : (Jvm.Cond.sameMethod "java/lang/AbstractStringBuilder" "java/lang/AbstractStringBuilder" "appendNull" "()Ljava/lang/AbstractStringBuilder;") ∈ lw_all := lw_g (lw_at lw_m10 58 rfl) rfl
theorem q2336 : (Jvm.Cond.sameMethod "java/lang/AbstractStringBuilder" "java/lang/AbstractStringBuilder" "ensureCapacityInternal" "(I)V") ∈ lw_all := lw_g (lw_at lw_m10 59 rfl) rfl
theorem q2337 : (Jvm.Cond.sameMethod "java/lang/AbstractStringBuilder" "java/lang/AbstractStringBuilder" "newCapacity" "(I)I") ∈ lw_all := lw_g (lw_at lw_m10 60 rfl) rfl
theorem q2338 : (Jvm.Cond.sameMethod "java/lang/AbstractStringBuilder" "java/lang/AbstractStringBuilder" "putStringAt" "(ILjava/lang/String;)V") ∈ lw_all := lw_g (lw_at lw_m10 61 rfl) rfl
theorem q2339 : (Jvm.Cond.sameMethod "java/lang/AbstractStringBuilder" "java/lang/AbstractStringBuilder" "inflateIfNeededFor" "(Ljava/lang/String;)V") ∈ lw_all := lw_g (lw_at lw_m10 62 rfl) rfl
theorem q2340 : (Jvm.Cond.sameMethod "java/lang/AbstractStringBuilder" "java/lang/AbstractStringBuilder" "inflate" "()V") ∈ lw_all := lw_g (lw_at lw_m10 63 rfl) rfl
/-! java/lang/StringBuilder -/
set_option maxRecDepth 100000
def RJ25 : String := "java/lang/StringBuilder"
def TJ25 : u_T := fun k => match k with
  | 0 => ("java/lang/AbstractStringBuilder", "value", "[B", false)
  | 1 => ("java/lang/AbstractStringBuilder", "coder", "B", false)
  | 2 => ("java/lang/AbstractStringBuilder", "maybeLatin1", "Z", false)
  | _ => ("java/lang/AbstractStringBuilder", "count", "I", false)
def tyJ25 : Nat → FieldType := fun k => match k with
  | 0 => .array .byte
  | 1 => .byte
  | 2 => .boolean
  | _ => .int
abbrev wsJ250 : List Cond := u_ws RJ25 TJ25 4
theorem nmJ25 : ∀ a, a < 4 → ∀ b, b < 4 → a ≠ b → (TJ25 a).2.1 ≠ (TJ25 b).2.1 := by decide +kernel
theorem tyJ25_ok : ∀ k, k < 4 → parseFieldDescriptor (TJ25 k).2.2.1 = some (tyJ25 k) := by decide +kernel
abbrev cJ25_init : ByteArray := prog_27_method_1_code
def yJ25_init : MethodName := ⟨RJ25, "<init>", "()V"⟩
def dkwJ25_init_0 : List UInt8 := [42, 16, 16, 183, 0, 1, 177]
abbrev dktJ25_init_0 : List UInt8 := dkwJ25_init_0 ++ []
theorem dksJ25_init_0 : cJ25_init.data.toList.drop 0 = dktJ25_init_0 := by decide +kernel
theorem dJ25_init_0 : decode cJ25_init 0 = .ok (.aload_n 0, 1) := dk_42 (dk_at dksJ25_init_0 0 rfl rfl)
theorem dJ25_init_1 : decode cJ25_init 1 = .ok (.bipush 16, 2) := dk_16 16 (dk_at dksJ25_init_0 1 rfl rfl)
theorem dJ25_init_3 : decode cJ25_init 3 = .ok (.invokespecial 1, 3) := dk_183 0 1 (dk_at dksJ25_init_0 3 rfl rfl)
theorem dJ25_init_6 : decode cJ25_init 6 = .ok (.return_, 1) := dk_177 (dk_at dksJ25_init_0 6 rfl rfl)
abbrev cJ25_append : ByteArray := prog_27_method_7_code
def yJ25_append : MethodName := ⟨RJ25, "append", "(Ljava/lang/String;)Ljava/lang/StringBuilder;"⟩
def dkwJ25_append_0 : List UInt8 := [42, 43, 183, 0, 29, 87, 42, 176]
abbrev dktJ25_append_0 : List UInt8 := dkwJ25_append_0 ++ []
theorem dksJ25_append_0 : cJ25_append.data.toList.drop 0 = dktJ25_append_0 := by decide +kernel
theorem dJ25_append_0 : decode cJ25_append 0 = .ok (.aload_n 0, 1) := dk_42 (dk_at dksJ25_append_0 0 rfl rfl)
theorem dJ25_append_1 : decode cJ25_append 1 = .ok (.aload_n 1, 1) := dk_43 (dk_at dksJ25_append_0 1 rfl rfl)
theorem dJ25_append_2 : decode cJ25_append 2 = .ok (.invokespecial 29, 3) := dk_183 0 29 (dk_at dksJ25_append_0 2 rfl rfl)
theorem dJ25_append_5 : decode cJ25_append 5 = .ok (.pop, 1) := dk_87 (dk_at dksJ25_append_0 5 rfl rfl)
theorem dJ25_append_6 : decode cJ25_append 6 = .ok (.aload_n 0, 1) := dk_42 (dk_at dksJ25_append_0 6 rfl rfl)
theorem dJ25_append_7 : decode cJ25_append 7 = .ok (.areturn, 1) := dk_176 (dk_at dksJ25_append_0 7 rfl rfl)
abbrev cJ25_toString : ByteArray := prog_27_method_42_code
def yJ25_toString : MethodName := ⟨RJ25, "toString", "()Ljava/lang/String;"⟩
def dkwJ25_toString_0 : List UInt8 := [187, 0, 18, 89, 42, 183, 0, 137, 176]
abbrev dktJ25_toString_0 : List UInt8 := dkwJ25_toString_0 ++ []
theorem dksJ25_toString_0 : cJ25_toString.data.toList.drop 0 = dktJ25_toString_0 := by decide +kernel
theorem dJ25_toString_0 : decode cJ25_toString 0 = .ok (.new 18, 3) := dk_187 0 18 (dk_at dksJ25_toString_0 0 rfl rfl)
theorem dJ25_toString_3 : decode cJ25_toString 3 = .ok (.dup, 1) := dk_89 (dk_at dksJ25_toString_0 3 rfl rfl)
theorem dJ25_toString_4 : decode cJ25_toString 4 = .ok (.aload_n 0, 1) := dk_42 (dk_at dksJ25_toString_0 4 rfl rfl)
theorem dJ25_toString_5 : decode cJ25_toString 5 = .ok (.invokespecial 137, 3) := dk_183 0 137 (dk_at dksJ25_toString_0 5 rfl rfl)
theorem dJ25_toString_8 : decode cJ25_toString 8 = .ok (.areturn, 1) := dk_176 (dk_at dksJ25_toString_0 8 rfl rfl)
abbrev cJ25_length : ByteArray := prog_27_method_93_code
def yJ25_length : MethodName := ⟨RJ25, "length", "()I"⟩
theorem dJ25_length_0 : decode cJ25_length 0 = .ok (.aload_n 0, 1) := by decide +kernel
theorem dJ25_length_1 : decode cJ25_length 1 = .ok (.invokespecial 343, 3) := by decide +kernel
theorem dJ25_length_4 : decode cJ25_length 4 = .ok (.ireturn, 1) := by decide +kernel
theorem q150 : (Jvm.Cond.initialized "java/lang/StringBuilder") ∈ lw_all := lw_g (lw_at lw_m1 33 rfl) rfl
theorem q1179 : (Jvm.Cond.selects "java/lang/StringBuilder" ({ cls := "java/lang/Object", name := "getClass", desc := "()Ljava/lang/Class;" } : Jvm.MethodName) ({ cls := "java/lang/Object", name := "getClass", desc := "()Ljava/lang/Class;" } : Jvm.MethodName)) ∈ lw_all := lw_g (lw_at lw_m5 102 rfl) rfl
theorem q1206 : (Jvm.Cond.instantiable "java/lang/StringBuilder" (4 : Nat)) ∈ lw_all := lw_g (lw_at lw_m5 129 rfl) rfl
theorem q1208 : (Jvm.Cond.instanceMethod ({ cls := "java/lang/StringBuilder", name := "<init>", desc := "()V" } : Jvm.MethodName)) ∈ lw_all := lw_g (lw_at lw_m5 131 rfl) rfl
theorem q1209 : (Jvm.Cond.code ({ cls := "java/lang/StringBuilder", name := "<init>", desc := "()V" } : Jvm.MethodName) prog_27_method_1_code (1 : Nat) (Option.none : Option Jvm.ClassFile.FieldType)) ∈ lw_all := lw_g (lw_at lw_m5 132 rfl) rfl
theorem q1210 : (Jvm.Cond.methodLink "java/lang/StringBuilder" (1 : Nat) ({ cls := "java/lang/AbstractStringBuilder", name := "<init>", desc := "(I)V" } : Jvm.MethodName)) ∈ lw_all := lw_g (lw_at lw_m5 133 rfl) rfl
theorem q1226 : (Jvm.Cond.lays "java/lang/StringBuilder" "java/lang/AbstractStringBuilder" "value" "[B") ∈ lw_all := lw_g (lw_at lw_m5 149 rfl) rfl
theorem q1228 : (Jvm.Cond.lays "java/lang/StringBuilder" "java/lang/AbstractStringBuilder" "coder" "B") ∈ lw_all := lw_g (lw_at lw_m5 151 rfl) rfl
theorem q1230 : (Jvm.Cond.lays "java/lang/StringBuilder" "java/lang/AbstractStringBuilder" "maybeLatin1" "Z") ∈ lw_all := lw_g (lw_at lw_m5 153 rfl) rfl
theorem q1232 : (Jvm.Cond.lays "java/lang/StringBuilder" "java/lang/AbstractStringBuilder" "count" "I") ∈ lw_all := lw_g (lw_at lw_m5 155 rfl) rfl
theorem q1234 : (Jvm.Cond.superclass "java/lang/StringBuilder" "java/lang/AbstractStringBuilder") ∈ lw_all := lw_g (lw_at lw_m5 157 rfl) rfl
theorem q1236 : (Jvm.Cond.instanceMethod ({ cls := "java/lang/StringBuilder", name := "append", desc := "(Ljava/lang/String;)Ljava/lang/StringBuilder;" } : Jvm.MethodName)) ∈ lw_all := lw_g (lw_at lw_m5 159 rfl) rfl
theorem q1237 : (Jvm.Cond.selects "java/lang/StringBuilder" ({ cls := "java/lang/StringBuilder", name := "append", desc := "(Ljava/lang/String;)Ljava/lang/StringBuilder;" } : Jvm.MethodName) ({ cls := "java/lang/StringBuilder", name := "append", desc := "(Ljava/lang/String;)Ljava/lang/StringBuilder;" } : Jvm.MethodName)) ∈ lw_all := lw_g (lw_at lw_m5 160 rfl) rfl
theorem q1238 : (Jvm.Cond.code ({ cls := "java/lang/StringBuilder", name := "append", desc := "(Ljava/lang/String;)Ljava/lang/StringBuilder;" } : Jvm.MethodName) prog_27_method_7_code (2 : Nat) (Option.some (Jvm.ClassFile.FieldType.object "java/lang/StringBuilder"))) ∈ lw_all := lw_g (lw_at lw_m5 161 rfl) rfl
theorem q1239 : (Jvm.Cond.methodLink "java/lang/StringBuilder" (29 : Nat) ({ cls := "java/lang/AbstractStringBuilder", name := "append", desc := "(Ljava/lang/String;)Ljava/lang/AbstractStringBuilder;" } : Jvm.MethodName)) ∈ lw_all := lw_g (lw_at lw_m5 162 rfl) rfl
theorem q1274 : (Jvm.Cond.selects "java/lang/StringBuilder" ({ cls := "java/lang/AbstractStringBuilder", name := "isLatin1", desc := "()Z" } : Jvm.MethodName) ({ cls := "java/lang/AbstractStringBuilder", name := "isLatin1", desc := "()Z" } : Jvm.MethodName)) ∈ lw_all := lw_g (lw_at lw_m5 197 rfl) rfl
theorem q1319 : (Jvm.Cond.instanceMethod ({ cls := "java/lang/StringBuilder", name := "toString", desc := "()Ljava/lang/String;" } : Jvm.MethodName)) ∈ lw_all := lw_g (lw_at lw_m6 2 rfl) rfl
theorem q1320 : (Jvm.Cond.selects "java/lang/StringBuilder" ({ cls := "java/lang/StringBuilder", name := "toString", desc := "()Ljava/lang/String;" } : Jvm.MethodName) ({ cls := "java/lang/StringBuilder", name := "toString", desc := "()Ljava/lang/String;" } : Jvm.MethodName)) ∈ lw_all := lw_g (lw_at lw_m6 3 rfl) rfl
theorem q1321 : (Jvm.Cond.code ({ cls := "java/lang/StringBuilder", name := "toString", desc := "()Ljava/lang/String;" } : Jvm.MethodName) prog_27_method_42_code (1 : Nat) (Option.some (Jvm.ClassFile.FieldType.object "java/lang/String"))) ∈ lw_all := lw_g (lw_at lw_m6 4 rfl) rfl
theorem q1322 : (Jvm.Cond.classLink "java/lang/StringBuilder" (18 : Nat) "java/lang/String") ∈ lw_all := lw_g (lw_at lw_m6 5 rfl) rfl
theorem q1324 : (Jvm.Cond.methodLink "java/lang/StringBuilder" (137 : Nat) ({ cls := "java/lang/String", name := "<init>", desc := "(Ljava/lang/StringBuilder;)V" } : Jvm.MethodName)) ∈ lw_all := lw_g (lw_at lw_m6 7 rfl) rfl
theorem q1334 : (Jvm.Cond.selects "java/lang/StringBuilder" ({ cls := "java/lang/AbstractStringBuilder", name := "getValue", desc := "()[B" } : Jvm.MethodName) ({ cls := "java/lang/AbstractStringBuilder", name := "getValue", desc := "()[B" } : Jvm.MethodName)) ∈ lw_all := lw_g (lw_at lw_m6 17 rfl) rfl
theorem q1339 : (Jvm.Cond.selects "java/lang/StringBuilder" ({ cls := "java/lang/AbstractStringBuilder", name := "length", desc := "()I" } : Jvm.MethodName) ({ cls := "java/lang/StringBuilder", name := "length", desc := "()I" } : Jvm.MethodName)) ∈ lw_all := lw_g (lw_at lw_m6 22 rfl) rfl
theorem q1340 : (Jvm.Cond.instanceMethod ({ cls := "java/lang/StringBuilder", name := "length", desc := "()I" } : Jvm.MethodName)) ∈ lw_all := lw_g (lw_at lw_m6 23 rfl) rfl
theorem q1341 : (Jvm.Cond.code ({ cls := "java/lang/StringBuilder", name := "length", desc := "()I" } : Jvm.MethodName) prog_27_method_93_code (1 : Nat) (Option.some Jvm.ClassFile.FieldType.int)) ∈ lw_all := lw_g (lw_at lw_m6 24 rfl) rfl
theorem q1342 : (Jvm.Cond.methodLink "java/lang/StringBuilder" (343 : Nat) ({ cls := "java/lang/AbstractStringBuilder", name := "length", desc := "()I" } : Jvm.MethodName)) ∈ lw_all := lw_g (lw_at lw_m6 25 rfl) rfl
theorem q2358 : (Jvm.Cond.castable "java/lang/StringBuilder" "java/lang/Object") ∈ lw_tbl := lw_at lw_m10 81 rfl
theorem in_J25 : ∀ w ∈ wsJ250, w ∈ lw_all := lw_in wsJ250 [1226, 1228, 1230, 1232] (by decide +kernel) (by decide +kernel)
/-! jdk/internal/util/ArraysSupport -/
set_option maxRecDepth 100000
def RJ26 : String := "jdk/internal/util/ArraysSupport"
abbrev cJ26_newLength : ByteArray := prog_57_method_27_code
def yJ26_newLength : MethodName := ⟨RJ26, "newLength", "(III)I"⟩
def dkwJ26_newLength_1 : List UInt8 := [184, 0, 201, 172]
abbrev dktJ26_newLength_1 : List UInt8 := dkwJ26_newLength_1 ++ []
def dkwJ26_newLength_0 : List UInt8 := [26, 27, 28, 184, 0, 194, 96, 62, 3, 29, 162, 0, 11, 29, 18, 200, 163, 0, 5, 29, 172, 26, 27]
abbrev dktJ26_newLength_0 : List UInt8 := dkwJ26_newLength_0 ++ dktJ26_newLength_1
theorem dksJ26_newLength_0 : cJ26_newLength.data.toList.drop 0 = dktJ26_newLength_0 := by decide +kernel
theorem dksJ26_newLength_1 : cJ26_newLength.data.toList.drop 23 = dktJ26_newLength_1 := dk_seg dksJ26_newLength_0 23 rfl rfl
theorem dJ26_newLength_0 : decode cJ26_newLength 0 = .ok (.iload_n 0, 1) := dk_26 (dk_at dksJ26_newLength_0 0 rfl rfl)
theorem dJ26_newLength_1 : decode cJ26_newLength 1 = .ok (.iload_n 1, 1) := dk_27 (dk_at dksJ26_newLength_0 1 rfl rfl)
theorem dJ26_newLength_2 : decode cJ26_newLength 2 = .ok (.iload_n 2, 1) := dk_28 (dk_at dksJ26_newLength_0 2 rfl rfl)
theorem dJ26_newLength_3 : decode cJ26_newLength 3 = .ok (.invokestatic 194, 3) := dk_184 0 194 (dk_at dksJ26_newLength_0 3 rfl rfl)
theorem dJ26_newLength_6 : decode cJ26_newLength 6 = .ok (.iadd, 1) := dk_96 (dk_at dksJ26_newLength_0 6 rfl rfl)
theorem dJ26_newLength_7 : decode cJ26_newLength 7 = .ok (.istore_n 3, 1) := dk_62 (dk_at dksJ26_newLength_0 7 rfl rfl)
theorem dJ26_newLength_8 : decode cJ26_newLength 8 = .ok (.iconst 0, 1) := dk_3 (dk_at dksJ26_newLength_0 8 rfl rfl)
theorem dJ26_newLength_9 : decode cJ26_newLength 9 = .ok (.iload_n 3, 1) := dk_29 (dk_at dksJ26_newLength_0 9 rfl rfl)
theorem dJ26_newLength_10 : decode cJ26_newLength 10 = .ok (.if_icmp .ge 11, 3) := dk_162 0 11 (dk_at dksJ26_newLength_0 10 rfl rfl)
theorem dJ26_newLength_13 : decode cJ26_newLength 13 = .ok (.iload_n 3, 1) := dk_29 (dk_at dksJ26_newLength_0 13 rfl rfl)
theorem dJ26_newLength_14 : decode cJ26_newLength 14 = .ok (.ldc 200, 2) := dk_18 200 (dk_at dksJ26_newLength_0 14 rfl rfl)
theorem dJ26_newLength_16 : decode cJ26_newLength 16 = .ok (.if_icmp .gt 5, 3) := dk_163 0 5 (dk_at dksJ26_newLength_0 16 rfl rfl)
theorem dJ26_newLength_19 : decode cJ26_newLength 19 = .ok (.iload_n 3, 1) := dk_29 (dk_at dksJ26_newLength_0 19 rfl rfl)
theorem dJ26_newLength_20 : decode cJ26_newLength 20 = .ok (.ireturn, 1) := dk_172 (dk_at dksJ26_newLength_0 20 rfl rfl)
theorem dJ26_newLength_21 : decode cJ26_newLength 21 = .ok (.iload_n 0, 1) := dk_26 (dk_at dksJ26_newLength_0 21 rfl rfl)
theorem dJ26_newLength_22 : decode cJ26_newLength 22 = .ok (.iload_n 1, 1) := dk_27 (dk_at dksJ26_newLength_0 22 rfl rfl)
theorem dJ26_newLength_23 : decode cJ26_newLength 23 = .ok (.invokestatic 201, 3) := dk_184 0 201 (dk_at dksJ26_newLength_1 0 rfl rfl)
theorem dJ26_newLength_26 : decode cJ26_newLength 26 = .ok (.ireturn, 1) := dk_172 (dk_at dksJ26_newLength_1 3 rfl rfl)
abbrev cJ26_hugeLength : ByteArray := prog_57_method_28_code
def yJ26_hugeLength : MethodName := ⟨RJ26, "hugeLength", "(II)I"⟩
def dkwJ26_hugeLength_2 : List UInt8 := [191, 28, 18, 200, 163, 0, 6, 18, 200, 172, 28, 172]
abbrev dktJ26_hugeLength_2 : List UInt8 := dkwJ26_hugeLength_2 ++ []
def dkwJ26_hugeLength_1 : List UInt8 := [26, 182, 0, 98, 18, 208, 182, 0, 94, 27, 182, 0, 98, 18, 210, 182, 0, 94, 182, 0, 101, 183, 0, 212]
abbrev dktJ26_hugeLength_1 : List UInt8 := dkwJ26_hugeLength_1 ++ dktJ26_hugeLength_2
def dkwJ26_hugeLength_0 : List UInt8 := [26, 27, 96, 61, 28, 156, 0, 44, 187, 0, 204, 89, 187, 0, 89, 89, 183, 0, 91, 18, 206, 182, 0, 94]
abbrev dktJ26_hugeLength_0 : List UInt8 := dkwJ26_hugeLength_0 ++ dktJ26_hugeLength_1
theorem dksJ26_hugeLength_0 : cJ26_hugeLength.data.toList.drop 0 = dktJ26_hugeLength_0 := by decide +kernel
theorem dksJ26_hugeLength_1 : cJ26_hugeLength.data.toList.drop 24 = dktJ26_hugeLength_1 := dk_seg dksJ26_hugeLength_0 24 rfl rfl
theorem dksJ26_hugeLength_2 : cJ26_hugeLength.data.toList.drop 48 = dktJ26_hugeLength_2 := dk_seg dksJ26_hugeLength_1 24 rfl rfl
theorem dJ26_hugeLength_0 : decode cJ26_hugeLength 0 = .ok (.iload_n 0, 1) := dk_26 (dk_at dksJ26_hugeLength_0 0 rfl rfl)
theorem dJ26_hugeLength_1 : decode cJ26_hugeLength 1 = .ok (.iload_n 1, 1) := dk_27 (dk_at dksJ26_hugeLength_0 1 rfl rfl)
theorem dJ26_hugeLength_2 : decode cJ26_hugeLength 2 = .ok (.iadd, 1) := dk_96 (dk_at dksJ26_hugeLength_0 2 rfl rfl)
theorem dJ26_hugeLength_3 : decode cJ26_hugeLength 3 = .ok (.istore_n 2, 1) := dk_61 (dk_at dksJ26_hugeLength_0 3 rfl rfl)
theorem dJ26_hugeLength_4 : decode cJ26_hugeLength 4 = .ok (.iload_n 2, 1) := dk_28 (dk_at dksJ26_hugeLength_0 4 rfl rfl)
theorem dJ26_hugeLength_5 : decode cJ26_hugeLength 5 = .ok (.ifCond .ge 44, 3) := dk_156 0 44 (dk_at dksJ26_hugeLength_0 5 rfl rfl)
theorem dJ26_hugeLength_8 : decode cJ26_hugeLength 8 = .ok (.new 204, 3) := dk_187 0 204 (dk_at dksJ26_hugeLength_0 8 rfl rfl)
theorem dJ26_hugeLength_11 : decode cJ26_hugeLength 11 = .ok (.dup, 1) := dk_89 (dk_at dksJ26_hugeLength_0 11 rfl rfl)
theorem dJ26_hugeLength_12 : decode cJ26_hugeLength 12 = .ok (.new 89, 3) := dk_187 0 89 (dk_at dksJ26_hugeLength_0 12 rfl rfl)
theorem dJ26_hugeLength_15 : decode cJ26_hugeLength 15 = .ok (.dup, 1) := dk_89 (dk_at dksJ26_hugeLength_0 15 rfl rfl)
theorem dJ26_hugeLength_16 : decode cJ26_hugeLength 16 = .ok (.invokespecial 91, 3) := dk_183 0 91 (dk_at dksJ26_hugeLength_0 16 rfl rfl)
theorem dJ26_hugeLength_19 : decode cJ26_hugeLength 19 = .ok (.ldc 206, 2) := dk_18 206 (dk_at dksJ26_hugeLength_0 19 rfl rfl)
theorem dJ26_hugeLength_21 : decode cJ26_hugeLength 21 = .ok (.invokevirtual 94, 3) := dk_182 0 94 (dk_at dksJ26_hugeLength_0 21 rfl rfl)
theorem dJ26_hugeLength_24 : decode cJ26_hugeLength 24 = .ok (.iload_n 0, 1) := dk_26 (dk_at dksJ26_hugeLength_1 0 rfl rfl)
theorem dJ26_hugeLength_25 : decode cJ26_hugeLength 25 = .ok (.invokevirtual 98, 3) := dk_182 0 98 (dk_at dksJ26_hugeLength_1 1 rfl rfl)
theorem dJ26_hugeLength_28 : decode cJ26_hugeLength 28 = .ok (.ldc 208, 2) := dk_18 208 (dk_at dksJ26_hugeLength_1 4 rfl rfl)
theorem dJ26_hugeLength_30 : decode cJ26_hugeLength 30 = .ok (.invokevirtual 94, 3) := dk_182 0 94 (dk_at dksJ26_hugeLength_1 6 rfl rfl)
theorem dJ26_hugeLength_33 : decode cJ26_hugeLength 33 = .ok (.iload_n 1, 1) := dk_27 (dk_at dksJ26_hugeLength_1 9 rfl rfl)
theorem dJ26_hugeLength_34 : decode cJ26_hugeLength 34 = .ok (.invokevirtual 98, 3) := dk_182 0 98 (dk_at dksJ26_hugeLength_1 10 rfl rfl)
theorem dJ26_hugeLength_37 : decode cJ26_hugeLength 37 = .ok (.ldc 210, 2) := dk_18 210 (dk_at dksJ26_hugeLength_1 13 rfl rfl)
theorem dJ26_hugeLength_39 : decode cJ26_hugeLength 39 = .ok (.invokevirtual 94, 3) := dk_182 0 94 (dk_at dksJ26_hugeLength_1 15 rfl rfl)
theorem dJ26_hugeLength_42 : decode cJ26_hugeLength 42 = .ok (.invokevirtual 101, 3) := dk_182 0 101 (dk_at dksJ26_hugeLength_1 18 rfl rfl)
theorem dJ26_hugeLength_45 : decode cJ26_hugeLength 45 = .ok (.invokespecial 212, 3) := dk_183 0 212 (dk_at dksJ26_hugeLength_1 21 rfl rfl)
theorem dJ26_hugeLength_48 : decode cJ26_hugeLength 48 = .ok (.athrow, 1) := dk_191 (dk_at dksJ26_hugeLength_2 0 rfl rfl)
theorem dJ26_hugeLength_49 : decode cJ26_hugeLength 49 = .ok (.iload_n 2, 1) := dk_28 (dk_at dksJ26_hugeLength_2 1 rfl rfl)
theorem dJ26_hugeLength_50 : decode cJ26_hugeLength 50 = .ok (.ldc 200, 2) := dk_18 200 (dk_at dksJ26_hugeLength_2 2 rfl rfl)
theorem dJ26_hugeLength_52 : decode cJ26_hugeLength 52 = .ok (.if_icmp .gt 6, 3) := dk_163 0 6 (dk_at dksJ26_hugeLength_2 4 rfl rfl)
theorem dJ26_hugeLength_55 : decode cJ26_hugeLength 55 = .ok (.ldc 200, 2) := dk_18 200 (dk_at dksJ26_hugeLength_2 7 rfl rfl)
theorem dJ26_hugeLength_57 : decode cJ26_hugeLength 57 = .ok (.ireturn, 1) := dk_172 (dk_at dksJ26_hugeLength_2 9 rfl rfl)
theorem dJ26_hugeLength_58 : decode cJ26_hugeLength 58 = .ok (.iload_n 2, 1) := dk_28 (dk_at dksJ26_hugeLength_2 10 rfl rfl)
theorem dJ26_hugeLength_59 : decode cJ26_hugeLength 59 = .ok (.ireturn, 1) := dk_172 (dk_at dksJ26_hugeLength_2 11 rfl rfl)
theorem q151 : (Jvm.Cond.initialized "jdk/internal/util/ArraysSupport") ∈ lw_all := lw_g (lw_at lw_m1 34 rfl) rfl
theorem q1255 : (Jvm.Cond.static ({ cls := "jdk/internal/util/ArraysSupport", name := "newLength", desc := "(III)I" } : Jvm.MethodName)) ∈ lw_all := lw_g (lw_at lw_m5 178 rfl) rfl
theorem q1256 : (Jvm.Cond.code ({ cls := "jdk/internal/util/ArraysSupport", name := "newLength", desc := "(III)I" } : Jvm.MethodName) prog_57_method_27_code (4 : Nat) (Option.some Jvm.ClassFile.FieldType.int)) ∈ lw_all := lw_g (lw_at lw_m5 179 rfl) rfl
theorem q1257 : (Jvm.Cond.methodLink "jdk/internal/util/ArraysSupport" (194 : Nat) ({ cls := "java/lang/Math", name := "max", desc := "(II)I" } : Jvm.MethodName)) ∈ lw_all := lw_g (lw_at lw_m5 180 rfl) rfl
theorem q1258 : (Jvm.Cond.constant "jdk/internal/util/ArraysSupport" (200 : Nat) (2147483639 : Int32)) ∈ lw_all := lw_g (lw_at lw_m5 181 rfl) rfl
theorem q1259 : (Jvm.Cond.methodLink "jdk/internal/util/ArraysSupport" (201 : Nat) ({ cls := "jdk/internal/util/ArraysSupport", name := "hugeLength", desc := "(II)I" } : Jvm.MethodName)) ∈ lw_all := lw_g (lw_at lw_m5 182 rfl) rfl
theorem q1260 : (Jvm.Cond.static ({ cls := "jdk/internal/util/ArraysSupport", name := "hugeLength", desc := "(II)I" } : Jvm.MethodName)) ∈ lw_all := lw_g (lw_at lw_m5 183 rfl) rfl
theorem q1261 : (Jvm.Cond.code ({ cls := "jdk/internal/util/ArraysSupport", name := "hugeLength", desc := "(II)I" } : Jvm.MethodName) prog_57_method_28_code (3 : Nat) (Option.some Jvm.ClassFile.FieldType.int)) ∈ lw_all := lw_g (lw_at lw_m5 184 rfl) rfl
/-! java/lang/IllegalStateException -/
set_option maxRecDepth 100000
def RJ27 : String := "java/lang/IllegalStateException"
def TJ27 : u_T := fun k => match k with
  | 0 => ("java/lang/Throwable", "cause", "Ljava/lang/Throwable;", false)
  | 1 => ("java/lang/Throwable", "stackTrace", "[Ljava/lang/StackTraceElement;", false)
  | 2 => ("java/lang/Throwable", "suppressedExceptions", "Ljava/util/List;", false)
  | 3 => ("java/lang/Throwable", "detailMessage", "Ljava/lang/String;", false)
  | 4 => ("java/lang/Throwable", "backtrace", "Ljava/lang/Object;", false)
  | _ => ("java/lang/Throwable", "depth", "I", false)
def tyJ27 : Nat → FieldType := fun k => match k with
  | 0 => .object "java/lang/Throwable"
  | 1 => .array (.object "java/lang/StackTraceElement")
  | 2 => .object "java/util/List"
  | 3 => .object "java/lang/String"
  | 4 => .object "java/lang/Object"
  | _ => .int
abbrev wsJ270 : List Cond := u_ws RJ27 TJ27 6
theorem nmJ27 : ∀ a, a < 6 → ∀ b, b < 6 → a ≠ b → (TJ27 a).2.1 ≠ (TJ27 b).2.1 := by decide +kernel
theorem tyJ27_ok : ∀ k, k < 6 → parseFieldDescriptor (TJ27 k).2.2.1 = some (tyJ27 k) := by decide +kernel
abbrev cJ27_init : ByteArray := prog_18_method_1_code
def yJ27_init : MethodName := ⟨RJ27, "<init>", "()V"⟩
theorem dJ27_init_0 : decode cJ27_init 0 = .ok (.aload_n 0, 1) := by decide +kernel
theorem dJ27_init_1 : decode cJ27_init 1 = .ok (.invokespecial 1, 3) := by decide +kernel
theorem dJ27_init_4 : decode cJ27_init 4 = .ok (.return_, 1) := by decide +kernel
theorem q152 : (Jvm.Cond.initialized "java/lang/IllegalStateException") ∈ lw_all := lw_g (lw_at lw_m1 35 rfl) rfl
theorem q194 : (Jvm.Cond.selects "java/lang/IllegalStateException" ({ cls := "java/lang/Throwable", name := "fillInStackTrace", desc := "()Ljava/lang/Throwable;" } : Jvm.MethodName) ({ cls := "java/lang/Throwable", name := "fillInStackTrace", desc := "()Ljava/lang/Throwable;" } : Jvm.MethodName)) ∈ lw_all := lw_g (lw_at lw_m1 77 rfl) rfl
theorem q1164 : (Jvm.Cond.selects "java/lang/IllegalStateException" ({ cls := "java/lang/Throwable", name := "toString", desc := "()Ljava/lang/String;" } : Jvm.MethodName) ({ cls := "java/lang/Throwable", name := "toString", desc := "()Ljava/lang/String;" } : Jvm.MethodName)) ∈ lw_all := lw_g (lw_at lw_m5 87 rfl) rfl
theorem q1176 : (Jvm.Cond.selects "java/lang/IllegalStateException" ({ cls := "java/lang/Object", name := "getClass", desc := "()Ljava/lang/Class;" } : Jvm.MethodName) ({ cls := "java/lang/Object", name := "getClass", desc := "()Ljava/lang/Class;" } : Jvm.MethodName)) ∈ lw_all := lw_g (lw_at lw_m5 99 rfl) rfl
theorem q1193 : (Jvm.Cond.selects "java/lang/IllegalStateException" ({ cls := "java/lang/Throwable", name := "getLocalizedMessage", desc := "()Ljava/lang/String;" } : Jvm.MethodName) ({ cls := "java/lang/Throwable", name := "getLocalizedMessage", desc := "()Ljava/lang/String;" } : Jvm.MethodName)) ∈ lw_all := lw_g (lw_at lw_m5 116 rfl) rfl
theorem q1201 : (Jvm.Cond.selects "java/lang/IllegalStateException" ({ cls := "java/lang/Throwable", name := "getMessage", desc := "()Ljava/lang/String;" } : Jvm.MethodName) ({ cls := "java/lang/Throwable", name := "getMessage", desc := "()Ljava/lang/String;" } : Jvm.MethodName)) ∈ lw_all := lw_g (lw_at lw_m5 124 rfl) rfl
theorem q1410 : (Jvm.Cond.instantiable "java/lang/IllegalStateException" (6 : Nat)) ∈ lw_all := lw_g (lw_at lw_m6 93 rfl) rfl
theorem q1411 : (Jvm.Cond.castable "java/lang/IllegalStateException" "java/lang/IllegalStateException") ∈ lw_tbl := lw_at lw_m6 94 rfl
theorem q1412 : (Jvm.Cond.selects "java/lang/IllegalStateException" ({ cls := "java/lang/Throwable", name := "fillInStackTrace", desc := "(I)Ljava/lang/Throwable;" } : Jvm.MethodName) ({ cls := "java/lang/Throwable", name := "fillInStackTrace", desc := "(I)Ljava/lang/Throwable;" } : Jvm.MethodName)) ∈ lw_all := lw_g (lw_at lw_m6 95 rfl) rfl
theorem q1413 : (Jvm.Cond.lays "java/lang/IllegalStateException" "java/lang/Throwable" "cause" "Ljava/lang/Throwable;") ∈ lw_all := lw_g (lw_at lw_m6 96 rfl) rfl
theorem q1414 : (Jvm.Cond.lays "java/lang/IllegalStateException" "java/lang/Throwable" "stackTrace" "[Ljava/lang/StackTraceElement;") ∈ lw_all := lw_g (lw_at lw_m6 97 rfl) rfl
theorem q1415 : (Jvm.Cond.lays "java/lang/IllegalStateException" "java/lang/Throwable" "suppressedExceptions" "Ljava/util/List;") ∈ lw_all := lw_g (lw_at lw_m6 98 rfl) rfl
theorem q1416 : (Jvm.Cond.lays "java/lang/IllegalStateException" "java/lang/Throwable" "detailMessage" "Ljava/lang/String;") ∈ lw_all := lw_g (lw_at lw_m6 99 rfl) rfl
theorem q1417 : (Jvm.Cond.lays "java/lang/IllegalStateException" "java/lang/Throwable" "backtrace" "Ljava/lang/Object;") ∈ lw_all := lw_g (lw_at lw_m6 100 rfl) rfl
theorem q1419 : (Jvm.Cond.instanceMethod ({ cls := "java/lang/IllegalStateException", name := "<init>", desc := "()V" } : Jvm.MethodName)) ∈ lw_all := lw_g (lw_at lw_m6 102 rfl) rfl
theorem q1420 : (Jvm.Cond.code ({ cls := "java/lang/IllegalStateException", name := "<init>", desc := "()V" } : Jvm.MethodName) prog_18_method_1_code (1 : Nat) (Option.none : Option Jvm.ClassFile.FieldType)) ∈ lw_all := lw_g (lw_at lw_m6 103 rfl) rfl
theorem q1421 : (Jvm.Cond.methodLink "java/lang/IllegalStateException" (1 : Nat) ({ cls := "java/lang/RuntimeException", name := "<init>", desc := "()V" } : Jvm.MethodName)) ∈ lw_all := lw_g (lw_at lw_m6 104 rfl) rfl
theorem q1422 : (Jvm.Cond.lays "java/lang/IllegalStateException" "java/lang/Throwable" "depth" "I") ∈ lw_all := lw_g (lw_at lw_m6 105 rfl) rfl
theorem q1423 : (Jvm.Cond.superclass "java/lang/IllegalStateException" "java/lang/RuntimeException") ∈ lw_all := lw_g (lw_at lw_m6 106 rfl) rfl
theorem q2360 : (Jvm.Cond.castable "java/lang/IllegalStateException" "java/lang/Object") ∈ lw_tbl := lw_at lw_m10 83 rfl
theorem in_J27 : ∀ w ∈ wsJ270, w ∈ lw_all := lw_in wsJ270 [1413, 1414, 1415, 1416, 1417, 1422] (by decide +kernel) (by decide +kernel)
/-! java/util/ConcurrentModificationException -/
set_option maxRecDepth 100000
def RJ28 : String := "java/util/ConcurrentModificationException"
def TJ28 : u_T := fun k => match k with
  | 0 => ("java/lang/Throwable", "backtrace", "Ljava/lang/Object;", false)
  | 1 => ("java/lang/Throwable", "detailMessage", "Ljava/lang/String;", false)
  | 2 => ("java/lang/Throwable", "cause", "Ljava/lang/Throwable;", false)
  | 3 => ("java/lang/Throwable", "stackTrace", "[Ljava/lang/StackTraceElement;", false)
  | 4 => ("java/lang/Throwable", "depth", "I", false)
  | _ => ("java/lang/Throwable", "suppressedExceptions", "Ljava/util/List;", false)
def tyJ28 : Nat → FieldType := fun k => match k with
  | 0 => .object "java/lang/Object"
  | 1 => .object "java/lang/String"
  | 2 => .object "java/lang/Throwable"
  | 3 => .array (.object "java/lang/StackTraceElement")
  | 4 => .int
  | _ => .object "java/util/List"
abbrev wsJ280 : List Cond := u_ws RJ28 TJ28 6
theorem nmJ28 : ∀ a, a < 6 → ∀ b, b < 6 → a ≠ b → (TJ28 a).2.1 ≠ (TJ28 b).2.1 := by decide +kernel
theorem tyJ28_ok : ∀ k, k < 6 → parseFieldDescriptor (TJ28 k).2.2.1 = some (tyJ28 k) := by decide +kernel
abbrev cJ28_init : ByteArray := prog_45_method_1_code
def yJ28_init : MethodName := ⟨RJ28, "<init>", "()V"⟩
theorem dJ28_init_0 : decode cJ28_init 0 = .ok (.aload_n 0, 1) := by decide +kernel
theorem dJ28_init_1 : decode cJ28_init 1 = .ok (.invokespecial 1, 3) := by decide +kernel
theorem dJ28_init_4 : decode cJ28_init 4 = .ok (.return_, 1) := by decide +kernel
theorem q153 : (Jvm.Cond.initialized "java/util/ConcurrentModificationException") ∈ lw_all := lw_g (lw_at lw_m1 36 rfl) rfl
theorem q195 : (Jvm.Cond.selects "java/util/ConcurrentModificationException" ({ cls := "java/lang/Throwable", name := "fillInStackTrace", desc := "()Ljava/lang/Throwable;" } : Jvm.MethodName) ({ cls := "java/lang/Throwable", name := "fillInStackTrace", desc := "()Ljava/lang/Throwable;" } : Jvm.MethodName)) ∈ lw_all := lw_g (lw_at lw_m1 78 rfl) rfl
theorem q1165 : (Jvm.Cond.selects "java/util/ConcurrentModificationException" ({ cls := "java/lang/Throwable", name := "toString", desc := "()Ljava/lang/String;" } : Jvm.MethodName) ({ cls := "java/lang/Throwable", name := "toString", desc := "()Ljava/lang/String;" } : Jvm.MethodName)) ∈ lw_all := lw_g (lw_at lw_m5 88 rfl) rfl
theorem q1183 : (Jvm.Cond.selects "java/util/ConcurrentModificationException" ({ cls := "java/lang/Object", name := "getClass", desc := "()Ljava/lang/Class;" } : Jvm.MethodName) ({ cls := "java/lang/Object", name := "getClass", desc := "()Ljava/lang/Class;" } : Jvm.MethodName)) ∈ lw_all := lw_g (lw_at lw_m5 106 rfl) rfl
theorem q1194 : (Jvm.Cond.selects "java/util/ConcurrentModificationException" ({ cls := "java/lang/Throwable", name := "getLocalizedMessage", desc := "()Ljava/lang/String;" } : Jvm.MethodName) ({ cls := "java/lang/Throwable", name := "getLocalizedMessage", desc := "()Ljava/lang/String;" } : Jvm.MethodName)) ∈ lw_all := lw_g (lw_at lw_m5 117 rfl) rfl
theorem q1202 : (Jvm.Cond.selects "java/util/ConcurrentModificationException" ({ cls := "java/lang/Throwable", name := "getMessage", desc := "()Ljava/lang/String;" } : Jvm.MethodName) ({ cls := "java/lang/Throwable", name := "getMessage", desc := "()Ljava/lang/String;" } : Jvm.MethodName)) ∈ lw_all := lw_g (lw_at lw_m5 125 rfl) rfl
theorem q1436 : (Jvm.Cond.instantiable "java/util/ConcurrentModificationException" (6 : Nat)) ∈ lw_all := lw_g (lw_at lw_m6 119 rfl) rfl
theorem q1438 : (Jvm.Cond.instanceMethod ({ cls := "java/util/ConcurrentModificationException", name := "<init>", desc := "()V" } : Jvm.MethodName)) ∈ lw_all := lw_g (lw_at lw_m6 121 rfl) rfl
theorem q1439 : (Jvm.Cond.code ({ cls := "java/util/ConcurrentModificationException", name := "<init>", desc := "()V" } : Jvm.MethodName) prog_45_method_1_code (1 : Nat) (Option.none : Option Jvm.ClassFile.FieldType)) ∈ lw_all := lw_g (lw_at lw_m6 122 rfl) rfl
theorem q1440 : (Jvm.Cond.methodLink "java/util/ConcurrentModificationException" (1 : Nat) ({ cls := "java/lang/RuntimeException", name := "<init>", desc := "()V" } : Jvm.MethodName)) ∈ lw_all := lw_g (lw_at lw_m6 123 rfl) rfl
theorem q1441 : (Jvm.Cond.lays "java/util/ConcurrentModificationException" "java/lang/Throwable" "backtrace" "Ljava/lang/Object;") ∈ lw_all := lw_g (lw_at lw_m6 124 rfl) rfl
theorem q1442 : (Jvm.Cond.lays "java/util/ConcurrentModificationException" "java/lang/Throwable" "detailMessage" "Ljava/lang/String;") ∈ lw_all := lw_g (lw_at lw_m6 125 rfl) rfl
theorem q1443 : (Jvm.Cond.lays "java/util/ConcurrentModificationException" "java/lang/Throwable" "cause" "Ljava/lang/Throwable;") ∈ lw_all := lw_g (lw_at lw_m6 126 rfl) rfl
theorem q1444 : (Jvm.Cond.lays "java/util/ConcurrentModificationException" "java/lang/Throwable" "stackTrace" "[Ljava/lang/StackTraceElement;") ∈ lw_all := lw_g (lw_at lw_m6 127 rfl) rfl
theorem q1445 : (Jvm.Cond.lays "java/util/ConcurrentModificationException" "java/lang/Throwable" "depth" "I") ∈ lw_all := lw_g (lw_at lw_m6 128 rfl) rfl
theorem q1446 : (Jvm.Cond.lays "java/util/ConcurrentModificationException" "java/lang/Throwable" "suppressedExceptions" "Ljava/util/List;") ∈ lw_all := lw_g (lw_at lw_m6 129 rfl) rfl
theorem q1447 : (Jvm.Cond.superclass "java/util/ConcurrentModificationException" "java/lang/RuntimeException") ∈ lw_all := lw_g (lw_at lw_m6 130 rfl) rfl
theorem q2361 : (Jvm.Cond.castable "java/util/ConcurrentModificationException" "java/lang/Object") ∈ lw_tbl := lw_at lw_m10 84 rfl
theorem in_J28 : ∀ w ∈ wsJ280, w ∈ lw_all := lw_in wsJ280 [1441, 1442, 1443, 1444, 1445, 1446] (by decide +kernel) (by decide +kernel)
/-! java/util/Collections -/
set_option maxRecDepth 100000
def RJ29 : String := "java/util/Collections"
abbrev cJ29_reverse : ByteArray := prog_44_method_11_code
def yJ29_reverse : MethodName := ⟨RJ29, "reverse", "(Ljava/util/List;)V"⟩
def dkwJ29_reverse_5 : List UInt8 := [185, 0, 78, 2, 0, 132, 4, 1, 167, 255, 218, 177]
abbrev dktJ29_reverse_5 : List UInt8 := dkwJ29_reverse_5 ++ []
def dkwJ29_reverse_4 : List UInt8 := [185, 0, 50, 1, 0, 58, 6, 44, 45, 185, 0, 54, 1, 0, 185, 0, 78, 2, 0, 45, 25, 6]
abbrev dktJ29_reverse_4 : List UInt8 := dkwJ29_reverse_4 ++ dktJ29_reverse_5
def dkwJ29_reverse_3 : List UInt8 := [3, 54, 4, 42, 185, 0, 15, 1, 0, 4, 122, 54, 5, 21, 4, 21, 5, 162, 0, 37, 44]
abbrev dktJ29_reverse_3 : List UInt8 := dkwJ29_reverse_3 ++ dktJ29_reverse_4
def dkwJ29_reverse_2 : List UInt8 := [132, 4, 255, 167, 255, 238, 167, 0, 72, 42, 185, 0, 38, 1, 0, 77, 42, 27, 185, 0, 75, 2, 0, 78]
abbrev dktJ29_reverse_2 : List UInt8 := dkwJ29_reverse_2 ++ dktJ29_reverse_3
def dkwJ29_reverse_1 : List UInt8 := [122, 62, 27, 4, 100, 54, 4, 28, 29, 162, 0, 19, 42, 28, 21, 4, 184, 0, 71, 132, 2, 1]
abbrev dktJ29_reverse_1 : List UInt8 := dkwJ29_reverse_1 ++ dktJ29_reverse_2
def dkwJ29_reverse_0 : List UInt8 := [42, 185, 0, 15, 1, 0, 60, 27, 16, 18, 161, 0, 10, 42, 193, 0, 13, 153, 0, 38, 3, 61, 27, 4]
abbrev dktJ29_reverse_0 : List UInt8 := dkwJ29_reverse_0 ++ dktJ29_reverse_1
theorem dksJ29_reverse_0 : cJ29_reverse.data.toList.drop 0 = dktJ29_reverse_0 := by decide +kernel
theorem dksJ29_reverse_1 : cJ29_reverse.data.toList.drop 24 = dktJ29_reverse_1 := dk_seg dksJ29_reverse_0 24 rfl rfl
theorem dksJ29_reverse_2 : cJ29_reverse.data.toList.drop 46 = dktJ29_reverse_2 := dk_seg dksJ29_reverse_1 22 rfl rfl
theorem dksJ29_reverse_3 : cJ29_reverse.data.toList.drop 70 = dktJ29_reverse_3 := dk_seg dksJ29_reverse_2 24 rfl rfl
theorem dksJ29_reverse_4 : cJ29_reverse.data.toList.drop 91 = dktJ29_reverse_4 := dk_seg dksJ29_reverse_3 21 rfl rfl
theorem dksJ29_reverse_5 : cJ29_reverse.data.toList.drop 113 = dktJ29_reverse_5 := dk_seg dksJ29_reverse_4 22 rfl rfl
theorem dJ29_reverse_0 : decode cJ29_reverse 0 = .ok (.aload_n 0, 1) := dk_42 (dk_at dksJ29_reverse_0 0 rfl rfl)
theorem dJ29_reverse_1 : decode cJ29_reverse 1 = .ok (.invokeinterface 15 1, 5) := by decide +kernel
theorem dJ29_reverse_6 : decode cJ29_reverse 6 = .ok (.istore_n 1, 1) := dk_60 (dk_at dksJ29_reverse_0 6 rfl rfl)
theorem dJ29_reverse_7 : decode cJ29_reverse 7 = .ok (.iload_n 1, 1) := dk_27 (dk_at dksJ29_reverse_0 7 rfl rfl)
theorem dJ29_reverse_8 : decode cJ29_reverse 8 = .ok (.bipush 18, 2) := dk_16 18 (dk_at dksJ29_reverse_0 8 rfl rfl)
theorem dJ29_reverse_10 : decode cJ29_reverse 10 = .ok (.if_icmp .lt 10, 3) := dk_161 0 10 (dk_at dksJ29_reverse_0 10 rfl rfl)
theorem dJ29_reverse_13 : decode cJ29_reverse 13 = .ok (.aload_n 0, 1) := dk_42 (dk_at dksJ29_reverse_0 13 rfl rfl)
theorem dJ29_reverse_14 : decode cJ29_reverse 14 = .ok (.instanceof 13, 3) := dk_193 0 13 (dk_at dksJ29_reverse_0 14 rfl rfl)
theorem dJ29_reverse_17 : decode cJ29_reverse 17 = .ok (.ifCond .eq 38, 3) := dk_153 0 38 (dk_at dksJ29_reverse_0 17 rfl rfl)
theorem dJ29_reverse_20 : decode cJ29_reverse 20 = .ok (.iconst 0, 1) := dk_3 (dk_at dksJ29_reverse_0 20 rfl rfl)
theorem dJ29_reverse_21 : decode cJ29_reverse 21 = .ok (.istore_n 2, 1) := dk_61 (dk_at dksJ29_reverse_0 21 rfl rfl)
theorem dJ29_reverse_22 : decode cJ29_reverse 22 = .ok (.iload_n 1, 1) := dk_27 (dk_at dksJ29_reverse_0 22 rfl rfl)
theorem dJ29_reverse_23 : decode cJ29_reverse 23 = .ok (.iconst 1, 1) := dk_4 (dk_at dksJ29_reverse_0 23 rfl rfl)
theorem dJ29_reverse_24 : decode cJ29_reverse 24 = .ok (.ishr, 1) := dk_122 (dk_at dksJ29_reverse_1 0 rfl rfl)
theorem dJ29_reverse_25 : decode cJ29_reverse 25 = .ok (.istore_n 3, 1) := dk_62 (dk_at dksJ29_reverse_1 1 rfl rfl)
theorem dJ29_reverse_26 : decode cJ29_reverse 26 = .ok (.iload_n 1, 1) := dk_27 (dk_at dksJ29_reverse_1 2 rfl rfl)
theorem dJ29_reverse_27 : decode cJ29_reverse 27 = .ok (.iconst 1, 1) := dk_4 (dk_at dksJ29_reverse_1 3 rfl rfl)
theorem dJ29_reverse_28 : decode cJ29_reverse 28 = .ok (.isub, 1) := dk_100 (dk_at dksJ29_reverse_1 4 rfl rfl)
theorem dJ29_reverse_29 : decode cJ29_reverse 29 = .ok (.istore 4, 2) := dk_54 4 (dk_at dksJ29_reverse_1 5 rfl rfl)
theorem dJ29_reverse_31 : decode cJ29_reverse 31 = .ok (.iload_n 2, 1) := dk_28 (dk_at dksJ29_reverse_1 7 rfl rfl)
theorem dJ29_reverse_32 : decode cJ29_reverse 32 = .ok (.iload_n 3, 1) := dk_29 (dk_at dksJ29_reverse_1 8 rfl rfl)
theorem dJ29_reverse_33 : decode cJ29_reverse 33 = .ok (.if_icmp .ge 19, 3) := dk_162 0 19 (dk_at dksJ29_reverse_1 9 rfl rfl)
theorem dJ29_reverse_36 : decode cJ29_reverse 36 = .ok (.aload_n 0, 1) := dk_42 (dk_at dksJ29_reverse_1 12 rfl rfl)
theorem dJ29_reverse_37 : decode cJ29_reverse 37 = .ok (.iload_n 2, 1) := dk_28 (dk_at dksJ29_reverse_1 13 rfl rfl)
theorem dJ29_reverse_38 : decode cJ29_reverse 38 = .ok (.iload 4, 2) := dk_21 4 (dk_at dksJ29_reverse_1 14 rfl rfl)
theorem dJ29_reverse_40 : decode cJ29_reverse 40 = .ok (.invokestatic 71, 3) := dk_184 0 71 (dk_at dksJ29_reverse_1 16 rfl rfl)
theorem dJ29_reverse_43 : decode cJ29_reverse 43 = .ok (.iinc 2 1, 3) := dk_132 2 1 (dk_at dksJ29_reverse_1 19 rfl rfl)
theorem dJ29_reverse_46 : decode cJ29_reverse 46 = .ok (.iinc 4 (-1), 3) := dk_132 4 255 (dk_at dksJ29_reverse_2 0 rfl rfl)
theorem dJ29_reverse_49 : decode cJ29_reverse 49 = .ok (.goto (-18), 3) := dk_167 255 238 (dk_at dksJ29_reverse_2 3 rfl rfl)
theorem dJ29_reverse_52 : decode cJ29_reverse 52 = .ok (.goto 72, 3) := dk_167 0 72 (dk_at dksJ29_reverse_2 6 rfl rfl)
theorem dJ29_reverse_55 : decode cJ29_reverse 55 = .ok (.aload_n 0, 1) := dk_42 (dk_at dksJ29_reverse_2 9 rfl rfl)
theorem dJ29_reverse_56 : decode cJ29_reverse 56 = .ok (.invokeinterface 38 1, 5) := by decide +kernel
theorem dJ29_reverse_61 : decode cJ29_reverse 61 = .ok (.astore_n 2, 1) := dk_77 (dk_at dksJ29_reverse_2 15 rfl rfl)
theorem dJ29_reverse_62 : decode cJ29_reverse 62 = .ok (.aload_n 0, 1) := dk_42 (dk_at dksJ29_reverse_2 16 rfl rfl)
theorem dJ29_reverse_63 : decode cJ29_reverse 63 = .ok (.iload_n 1, 1) := dk_27 (dk_at dksJ29_reverse_2 17 rfl rfl)
theorem dJ29_reverse_64 : decode cJ29_reverse 64 = .ok (.invokeinterface 75 2, 5) := by decide +kernel
theorem dJ29_reverse_69 : decode cJ29_reverse 69 = .ok (.astore_n 3, 1) := dk_78 (dk_at dksJ29_reverse_2 23 rfl rfl)
theorem dJ29_reverse_70 : decode cJ29_reverse 70 = .ok (.iconst 0, 1) := dk_3 (dk_at dksJ29_reverse_3 0 rfl rfl)
theorem dJ29_reverse_71 : decode cJ29_reverse 71 = .ok (.istore 4, 2) := dk_54 4 (dk_at dksJ29_reverse_3 1 rfl rfl)
theorem dJ29_reverse_73 : decode cJ29_reverse 73 = .ok (.aload_n 0, 1) := dk_42 (dk_at dksJ29_reverse_3 3 rfl rfl)
theorem dJ29_reverse_74 : decode cJ29_reverse 74 = .ok (.invokeinterface 15 1, 5) := by decide +kernel
theorem dJ29_reverse_79 : decode cJ29_reverse 79 = .ok (.iconst 1, 1) := dk_4 (dk_at dksJ29_reverse_3 9 rfl rfl)
theorem dJ29_reverse_80 : decode cJ29_reverse 80 = .ok (.ishr, 1) := dk_122 (dk_at dksJ29_reverse_3 10 rfl rfl)
theorem dJ29_reverse_81 : decode cJ29_reverse 81 = .ok (.istore 5, 2) := dk_54 5 (dk_at dksJ29_reverse_3 11 rfl rfl)
theorem dJ29_reverse_83 : decode cJ29_reverse 83 = .ok (.iload 4, 2) := dk_21 4 (dk_at dksJ29_reverse_3 13 rfl rfl)
theorem dJ29_reverse_85 : decode cJ29_reverse 85 = .ok (.iload 5, 2) := dk_21 5 (dk_at dksJ29_reverse_3 15 rfl rfl)
theorem dJ29_reverse_87 : decode cJ29_reverse 87 = .ok (.if_icmp .ge 37, 3) := dk_162 0 37 (dk_at dksJ29_reverse_3 17 rfl rfl)
theorem dJ29_reverse_90 : decode cJ29_reverse 90 = .ok (.aload_n 2, 1) := dk_44 (dk_at dksJ29_reverse_3 20 rfl rfl)
theorem dJ29_reverse_91 : decode cJ29_reverse 91 = .ok (.invokeinterface 50 1, 5) := by decide +kernel
theorem dJ29_reverse_96 : decode cJ29_reverse 96 = .ok (.astore 6, 2) := dk_58 6 (dk_at dksJ29_reverse_4 5 rfl rfl)
theorem dJ29_reverse_98 : decode cJ29_reverse 98 = .ok (.aload_n 2, 1) := dk_44 (dk_at dksJ29_reverse_4 7 rfl rfl)
theorem dJ29_reverse_99 : decode cJ29_reverse 99 = .ok (.aload_n 3, 1) := dk_45 (dk_at dksJ29_reverse_4 8 rfl rfl)
theorem dJ29_reverse_100 : decode cJ29_reverse 100 = .ok (.invokeinterface 54 1, 5) := by decide +kernel
theorem dJ29_reverse_105 : decode cJ29_reverse 105 = .ok (.invokeinterface 78 2, 5) := by decide +kernel
theorem dJ29_reverse_110 : decode cJ29_reverse 110 = .ok (.aload_n 3, 1) := dk_45 (dk_at dksJ29_reverse_4 19 rfl rfl)
theorem dJ29_reverse_111 : decode cJ29_reverse 111 = .ok (.aload 6, 2) := dk_25 6 (dk_at dksJ29_reverse_4 20 rfl rfl)
theorem dJ29_reverse_113 : decode cJ29_reverse 113 = .ok (.invokeinterface 78 2, 5) := by decide +kernel
theorem dJ29_reverse_118 : decode cJ29_reverse 118 = .ok (.iinc 4 1, 3) := dk_132 4 1 (dk_at dksJ29_reverse_5 5 rfl rfl)
theorem dJ29_reverse_121 : decode cJ29_reverse 121 = .ok (.goto (-38), 3) := dk_167 255 218 (dk_at dksJ29_reverse_5 8 rfl rfl)
theorem dJ29_reverse_124 : decode cJ29_reverse 124 = .ok (.return_, 1) := dk_177 (dk_at dksJ29_reverse_5 11 rfl rfl)
abbrev cJ29_swap : ByteArray := prog_44_method_15_code
def yJ29_swap : MethodName := ⟨RJ29, "swap", "(Ljava/util/List;II)V"⟩
def dkwJ29_swap_1 : List UInt8 := [177]
abbrev dktJ29_swap_1 : List UInt8 := dkwJ29_swap_1 ++ []
def dkwJ29_swap_0 : List UInt8 := [42, 78, 45, 27, 45, 28, 45, 27, 185, 0, 28, 2, 0, 185, 0, 109, 3, 0, 185, 0, 109, 3, 0, 87]
abbrev dktJ29_swap_0 : List UInt8 := dkwJ29_swap_0 ++ dktJ29_swap_1
theorem dksJ29_swap_0 : cJ29_swap.data.toList.drop 0 = dktJ29_swap_0 := by decide +kernel
theorem dksJ29_swap_1 : cJ29_swap.data.toList.drop 24 = dktJ29_swap_1 := dk_seg dksJ29_swap_0 24 rfl rfl
theorem dJ29_swap_0 : decode cJ29_swap 0 = .ok (.aload_n 0, 1) := dk_42 (dk_at dksJ29_swap_0 0 rfl rfl)
theorem dJ29_swap_1 : decode cJ29_swap 1 = .ok (.astore_n 3, 1) := dk_78 (dk_at dksJ29_swap_0 1 rfl rfl)
theorem dJ29_swap_2 : decode cJ29_swap 2 = .ok (.aload_n 3, 1) := dk_45 (dk_at dksJ29_swap_0 2 rfl rfl)
theorem dJ29_swap_3 : decode cJ29_swap 3 = .ok (.iload_n 1, 1) := dk_27 (dk_at dksJ29_swap_0 3 rfl rfl)
theorem dJ29_swap_4 : decode cJ29_swap 4 = .ok (.aload_n 3, 1) := dk_45 (dk_at dksJ29_swap_0 4 rfl rfl)
theorem dJ29_swap_5 : decode cJ29_swap 5 = .ok (.iload_n 2, 1) := dk_28 (dk_at dksJ29_swap_0 5 rfl rfl)
theorem dJ29_swap_6 : decode cJ29_swap 6 = .ok (.aload_n 3, 1) := dk_45 (dk_at dksJ29_swap_0 6 rfl rfl)
theorem dJ29_swap_7 : decode cJ29_swap 7 = .ok (.iload_n 1, 1) := dk_27 (dk_at dksJ29_swap_0 7 rfl rfl)
theorem dJ29_swap_8 : decode cJ29_swap 8 = .ok (.invokeinterface 28 2, 5) := by decide +kernel
theorem dJ29_swap_13 : decode cJ29_swap 13 = .ok (.invokeinterface 109 3, 5) := by decide +kernel
theorem dJ29_swap_18 : decode cJ29_swap 18 = .ok (.invokeinterface 109 3, 5) := by decide +kernel
theorem dJ29_swap_23 : decode cJ29_swap 23 = .ok (.pop, 1) := dk_87 (dk_at dksJ29_swap_0 23 rfl rfl)
theorem dJ29_swap_24 : decode cJ29_swap 24 = .ok (.return_, 1) := dk_177 (dk_at dksJ29_swap_1 0 rfl rfl)
theorem q154 : (Jvm.Cond.initialized "java/util/Collections") ∈ lw_all := lw_g (lw_at lw_m1 37 rfl) rfl
theorem q1455 : (Jvm.Cond.static ({ cls := "java/util/Collections", name := "reverse", desc := "(Ljava/util/List;)V" } : Jvm.MethodName)) ∈ lw_all := lw_g (lw_at lw_m6 138 rfl) rfl
theorem q1456 : (Jvm.Cond.code ({ cls := "java/util/Collections", name := "reverse", desc := "(Ljava/util/List;)V" } : Jvm.MethodName) prog_44_method_11_code (7 : Nat) (Option.none : Option Jvm.ClassFile.FieldType)) ∈ lw_all := lw_g (lw_at lw_m6 139 rfl) rfl
theorem q1457 : (Jvm.Cond.interfaceEntry "java/util/Collections" (15 : Nat)) ∈ lw_tbl := lw_at lw_m6 140 rfl
theorem q1458 : (Jvm.Cond.methodLink "java/util/Collections" (15 : Nat) ({ cls := "java/util/List", name := "size", desc := "()I" } : Jvm.MethodName)) ∈ lw_all := lw_g (lw_at lw_m6 141 rfl) rfl
theorem q1465 : (Jvm.Cond.classLink "java/util/Collections" (13 : Nat) "java/util/RandomAccess") ∈ lw_all := lw_g (lw_at lw_m6 148 rfl) rfl
theorem q1466 : (Jvm.Cond.methodLink "java/util/Collections" (71 : Nat) ({ cls := "java/util/Collections", name := "swap", desc := "(Ljava/util/List;II)V" } : Jvm.MethodName)) ∈ lw_all := lw_g (lw_at lw_m6 149 rfl) rfl
theorem q1467 : (Jvm.Cond.static ({ cls := "java/util/Collections", name := "swap", desc := "(Ljava/util/List;II)V" } : Jvm.MethodName)) ∈ lw_all := lw_g (lw_at lw_m6 150 rfl) rfl
theorem q1468 : (Jvm.Cond.code ({ cls := "java/util/Collections", name := "swap", desc := "(Ljava/util/List;II)V" } : Jvm.MethodName) prog_44_method_15_code (4 : Nat) (Option.none : Option Jvm.ClassFile.FieldType)) ∈ lw_all := lw_g (lw_at lw_m6 151 rfl) rfl
theorem q1469 : (Jvm.Cond.interfaceEntry "java/util/Collections" (28 : Nat)) ∈ lw_tbl := lw_at lw_m6 152 rfl
theorem q1470 : (Jvm.Cond.methodLink "java/util/Collections" (28 : Nat) ({ cls := "java/util/List", name := "get", desc := "(I)Ljava/lang/Object;" } : Jvm.MethodName)) ∈ lw_all := lw_g (lw_at lw_m6 153 rfl) rfl
theorem q1476 : (Jvm.Cond.interfaceEntry "java/util/Collections" (109 : Nat)) ∈ lw_tbl := lw_at lw_m6 159 rfl
theorem q1477 : (Jvm.Cond.methodLink "java/util/Collections" (109 : Nat) ({ cls := "java/util/List", name := "set", desc := "(ILjava/lang/Object;)Ljava/lang/Object;" } : Jvm.MethodName)) ∈ lw_all := lw_g (lw_at lw_m6 160 rfl) rfl
theorem q1485 : (Jvm.Cond.interfaceEntry "java/util/Collections" (38 : Nat)) ∈ lw_tbl := lw_at lw_m6 168 rfl
theorem q1486 : (Jvm.Cond.methodLink "java/util/Collections" (38 : Nat) ({ cls := "java/util/List", name := "listIterator", desc := "()Ljava/util/ListIterator;" } : Jvm.MethodName)) ∈ lw_all := lw_g (lw_at lw_m6 169 rfl) rfl
theorem q1492 : (Jvm.Cond.interfaceEntry "java/util/Collections" (75 : Nat)) ∈ lw_tbl := lw_at lw_m6 175 rfl
theorem q1493 : (Jvm.Cond.methodLink "java/util/Collections" (75 : Nat) ({ cls := "java/util/List", name := "listIterator", desc := "(I)Ljava/util/ListIterator;" } : Jvm.MethodName)) ∈ lw_all := lw_g (lw_at lw_m6 176 rfl) rfl
theorem q1499 : (Jvm.Cond.interfaceEntry "java/util/Collections" (50 : Nat)) ∈ lw_tbl := lw_at lw_m6 182 rfl
theorem q1500 : (Jvm.Cond.methodLink "java/util/Collections" (50 : Nat) ({ cls := "java/util/ListIterator", name := "next", desc := "()Ljava/lang/Object;" } : Jvm.MethodName)) ∈ lw_all := lw_g (lw_at lw_m6 183 rfl) rfl
theorem q1507 : (Jvm.Cond.interfaceEntry "java/util/Collections" (54 : Nat)) ∈ lw_tbl := lw_at lw_m6 190 rfl
theorem q1508 : (Jvm.Cond.methodLink "java/util/Collections" (54 : Nat) ({ cls := "java/util/ListIterator", name := "previous", desc := "()Ljava/lang/Object;" } : Jvm.MethodName)) ∈ lw_all := lw_g (lw_at lw_m6 191 rfl) rfl
theorem q1532 : (Jvm.Cond.interfaceEntry "java/util/Collections" (78 : Nat)) ∈ lw_tbl := lw_at lw_m6 215 rfl
theorem q1533 : (Jvm.Cond.methodLink "java/util/Collections" (78 : Nat) ({ cls := "java/util/ListIterator", name := "set", desc := "(Ljava/lang/Object;)V" } : Jvm.MethodName)) ∈ lw_all := lw_g (lw_at lw_m6 216 rfl) rfl
/-! java/util/AbstractList -/
set_option maxRecDepth 100000
def RJ3 : String := "java/util/AbstractList"
abbrev cJ3_init : ByteArray := prog_35_method_1_code
def yJ3_init : MethodName := ⟨RJ3, "<init>", "()V"⟩
def dkwJ3_init_0 : List UInt8 := [42, 183, 0, 1, 42, 3, 181, 0, 7, 177]
abbrev dktJ3_init_0 : List UInt8 := dkwJ3_init_0 ++ []
theorem dksJ3_init_0 : cJ3_init.data.toList.drop 0 = dktJ3_init_0 := by decide +kernel
theorem dJ3_init_0 : decode cJ3_init 0 = .ok (.aload_n 0, 1) := dk_42 (dk_at dksJ3_init_0 0 rfl rfl)
theorem dJ3_init_1 : decode cJ3_init 1 = .ok (.invokespecial 1, 3) := dk_183 0 1 (dk_at dksJ3_init_0 1 rfl rfl)
theorem dJ3_init_4 : decode cJ3_init 4 = .ok (.aload_n 0, 1) := dk_42 (dk_at dksJ3_init_0 4 rfl rfl)
theorem dJ3_init_5 : decode cJ3_init 5 = .ok (.iconst 0, 1) := dk_3 (dk_at dksJ3_init_0 5 rfl rfl)
theorem dJ3_init_6 : decode cJ3_init 6 = .ok (.putfield 7, 3) := dk_181 0 7 (dk_at dksJ3_init_0 6 rfl rfl)
theorem dJ3_init_9 : decode cJ3_init 9 = .ok (.return_, 1) := dk_177 (dk_at dksJ3_init_0 9 rfl rfl)
abbrev cJ3_listIterator : ByteArray := prog_35_method_12_code
def yJ3_listIterator : MethodName := ⟨RJ3, "listIterator", "()Ljava/util/ListIterator;"⟩
def dkwJ3_listIterator_0 : List UInt8 := [42, 3, 182, 0, 47, 176]
abbrev dktJ3_listIterator_0 : List UInt8 := dkwJ3_listIterator_0 ++ []
theorem dksJ3_listIterator_0 : cJ3_listIterator.data.toList.drop 0 = dktJ3_listIterator_0 := by decide +kernel
theorem dJ3_listIterator_0 : decode cJ3_listIterator 0 = .ok (.aload_n 0, 1) := dk_42 (dk_at dksJ3_listIterator_0 0 rfl rfl)
theorem dJ3_listIterator_1 : decode cJ3_listIterator 1 = .ok (.iconst 0, 1) := dk_3 (dk_at dksJ3_listIterator_0 1 rfl rfl)
theorem dJ3_listIterator_2 : decode cJ3_listIterator 2 = .ok (.invokevirtual 47, 3) := dk_182 0 47 (dk_at dksJ3_listIterator_0 2 rfl rfl)
theorem dJ3_listIterator_5 : decode cJ3_listIterator 5 = .ok (.areturn, 1) := dk_176 (dk_at dksJ3_listIterator_0 5 rfl rfl)
theorem q123 : (Jvm.Cond.initialized "java/util/AbstractList") ∈ lw_all := lw_g (lw_at lw_m1 6 rfl) rfl
theorem q234 : (Jvm.Cond.instanceMethod ({ cls := "java/util/AbstractList", name := "<init>", desc := "()V" } : Jvm.MethodName)) ∈ lw_all := lw_g (lw_at lw_m1 117 rfl) rfl
theorem q235 : (Jvm.Cond.code ({ cls := "java/util/AbstractList", name := "<init>", desc := "()V" } : Jvm.MethodName) prog_35_method_1_code (1 : Nat) (Option.none : Option Jvm.ClassFile.FieldType)) ∈ lw_all := lw_g (lw_at lw_m1 118 rfl) rfl
theorem q236 : (Jvm.Cond.methodLink "java/util/AbstractList" (1 : Nat) ({ cls := "java/util/AbstractCollection", name := "<init>", desc := "()V" } : Jvm.MethodName)) ∈ lw_all := lw_g (lw_at lw_m1 119 rfl) rfl
theorem q245 : (Jvm.Cond.fieldLink "java/util/AbstractList" (7 : Nat) "java/util/AbstractList" "modCount" "I") ∈ lw_all := lw_g (lw_at lw_m1 128 rfl) rfl
theorem q258 : (Jvm.Cond.soleField "java/util/AbstractList" "modCount") ∈ lw_all := lw_g (lw_at lw_m1 141 rfl) rfl
theorem q1058 : (Jvm.Cond.declares ({ cls := "java/util/AbstractList", name := "listIterator", desc := "()Ljava/util/ListIterator;" } : Jvm.MethodName)) ∈ lw_tbl := lw_at lw_m4 221 rfl
theorem q1060 : (Jvm.Cond.instanceMethod ({ cls := "java/util/AbstractList", name := "listIterator", desc := "()Ljava/util/ListIterator;" } : Jvm.MethodName)) ∈ lw_all := lw_g (lw_at lw_m4 223 rfl) rfl
theorem q1061 : (Jvm.Cond.code ({ cls := "java/util/AbstractList", name := "listIterator", desc := "()Ljava/util/ListIterator;" } : Jvm.MethodName) prog_35_method_12_code (1 : Nat) (Option.some (Jvm.ClassFile.FieldType.object "java/util/ListIterator"))) ∈ lw_all := lw_g (lw_at lw_m4 224 rfl) rfl
theorem q1062 : (Jvm.Cond.methodLink "java/util/AbstractList" (47 : Nat) ({ cls := "java/util/AbstractList", name := "listIterator", desc := "(I)Ljava/util/ListIterator;" } : Jvm.MethodName)) ∈ lw_all := lw_g (lw_at lw_m4 225 rfl) rfl
theorem q1063 : (Jvm.Cond.instanceMethod ({ cls := "java/util/AbstractList", name := "listIterator", desc := "(I)Ljava/util/ListIterator;" } : Jvm.MethodName)) ∈ lw_all := lw_g (lw_at lw_m4 226 rfl) rfl
theorem q1064 : (Jvm.Cond.sameMethod "java/util/AbstractList" "java/util/AbstractList" "listIterator" "(I)Ljava/util/ListIterator;") ∈ lw_all := lw_g (lw_at lw_m4 227 rfl) rfl
theorem q1099 : (Jvm.Cond.declares ({ cls := "java/util/AbstractList", name := "listIterator", desc := "(I)Ljava/util/ListIterator;" } : Jvm.MethodName)) ∈ lw_tbl := lw_at lw_m5 22 rfl
theorem q1111 : (Jvm.Cond.sameMethod "java/util/AbstractList" "java/util/AbstractCollection" "size" "()I") ∈ lw_all := lw_g (lw_at lw_m5 34 rfl) rfl
theorem q1134 : (Jvm.Cond.declares ({ cls := "java/util/AbstractList", name := "get", desc := "(I)Ljava/lang/Object;" } : Jvm.MethodName)) ∈ lw_tbl := lw_at lw_m5 57 rfl
theorem q1135 : (Jvm.Cond.sameMethod "java/util/AbstractList" "java/util/AbstractList" "get" "(I)Ljava/lang/Object;") ∈ lw_all := lw_g (lw_at lw_m5 58 rfl) rfl
theorem q1425 : (Jvm.Cond.instanceMethod ({ cls := "java/util/AbstractList", name := "remove", desc := "(I)Ljava/lang/Object;" } : Jvm.MethodName)) ∈ lw_all := lw_g (lw_at lw_m6 108 rfl) rfl
theorem q1426 : (Jvm.Cond.sameMethod "java/util/AbstractList" "java/util/AbstractList" "remove" "(I)Ljava/lang/Object;") ∈ lw_all := lw_g (lw_at lw_m6 109 rfl) rfl
theorem q1434 : (Jvm.Cond.declares ({ cls := "java/util/AbstractList", name := "remove", desc := "(I)Ljava/lang/Object;" } : Jvm.MethodName)) ∈ lw_tbl := lw_at lw_m6 117 rfl
theorem q1491 : (Jvm.Cond.publicMethod ({ cls := "java/util/AbstractList", name := "listIterator", desc := "()Ljava/util/ListIterator;" } : Jvm.MethodName)) ∈ lw_tbl := lw_at lw_m6 174 rfl
theorem q1544 : (Jvm.Cond.instanceMethod ({ cls := "java/util/AbstractList", name := "set", desc := "(ILjava/lang/Object;)Ljava/lang/Object;" } : Jvm.MethodName)) ∈ lw_all := lw_g (lw_at lw_m6 227 rfl) rfl
theorem q1545 : (Jvm.Cond.sameMethod "java/util/AbstractList" "java/util/AbstractList" "set" "(ILjava/lang/Object;)Ljava/lang/Object;") ∈ lw_all := lw_g (lw_at lw_m6 228 rfl) rfl
theorem q1547 : (Jvm.Cond.declares ({ cls := "java/util/AbstractList", name := "set", desc := "(ILjava/lang/Object;)Ljava/lang/Object;" } : Jvm.MethodName)) ∈ lw_tbl := lw_at lw_m6 230 rfl
/-! java/lang/Object -/
set_option maxRecDepth 100000
def RJ30 : String := "java/lang/Object"
abbrev cJ30_init : ByteArray := object_method_1_code
def yJ30_init : MethodName := ⟨RJ30, "<init>", "()V"⟩
theorem dJ30_init_0 : decode cJ30_init 0 = .ok (.return_, 1) := by decide +kernel
theorem q161 : (Jvm.Cond.instanceMethod ({ cls := "java/lang/Object", name := "<init>", desc := "()V" } : Jvm.MethodName)) ∈ lw_all := lw_g (lw_at lw_m1 44 rfl) rfl
theorem q162 : (Jvm.Cond.code ({ cls := "java/lang/Object", name := "<init>", desc := "()V" } : Jvm.MethodName) object_method_1_code (1 : Nat) (Option.none : Option Jvm.ClassFile.FieldType)) ∈ lw_all := lw_g (lw_at lw_m1 45 rfl) rfl
theorem q974 : (Jvm.Cond.native ({ cls := "java/lang/Object", name := "clone", desc := "()Ljava/lang/Object;" } : Jvm.MethodName)) ∈ lw_all := lw_g (lw_at lw_m4 137 rfl) rfl
theorem q975 : (Jvm.Cond.instanceMethod ({ cls := "java/lang/Object", name := "clone", desc := "()Ljava/lang/Object;" } : Jvm.MethodName)) ∈ lw_all := lw_g (lw_at lw_m4 138 rfl) rfl
theorem q1169 : (Jvm.Cond.instanceMethod ({ cls := "java/lang/Object", name := "getClass", desc := "()Ljava/lang/Class;" } : Jvm.MethodName)) ∈ lw_all := lw_g (lw_at lw_m5 92 rfl) rfl
theorem q1170 : (Jvm.Cond.sameMethod "java/lang/Object" "java/lang/Object" "getClass" "()Ljava/lang/Class;") ∈ lw_all := lw_g (lw_at lw_m5 93 rfl) rfl
theorem q1188 : (Jvm.Cond.native ({ cls := "java/lang/Object", name := "getClass", desc := "()Ljava/lang/Class;" } : Jvm.MethodName)) ∈ lw_all := lw_g (lw_at lw_m5 111 rfl) rfl
theorem q2342 : (Jvm.Cond.initialized "java/lang/Object") ∈ lw_all := lw_g (lw_at lw_m10 65 rfl) rfl
theorem q2365 : (Jvm.Cond.declares ({ cls := "java/lang/Object", name := "getClass", desc := "()Ljava/lang/Class;" } : Jvm.MethodName)) ∈ lw_tbl := lw_at lw_m10 88 rfl
theorem q2386 : (Jvm.Cond.instantiable "java/lang/Object" (0 : Nat)) ∈ lw_all := lw_g (lw_at lw_m10 109 rfl) rfl
/-! java/util/AbstractSequentialList -/
set_option maxRecDepth 100000
def RJ4 : String := "java/util/AbstractSequentialList"
abbrev cJ4_init : ByteArray := prog_38_method_1_code
def yJ4_init : MethodName := ⟨RJ4, "<init>", "()V"⟩
theorem dJ4_init_0 : decode cJ4_init 0 = .ok (.aload_n 0, 1) := by decide +kernel
theorem dJ4_init_1 : decode cJ4_init 1 = .ok (.invokespecial 1, 3) := by decide +kernel
theorem dJ4_init_4 : decode cJ4_init 4 = .ok (.return_, 1) := by decide +kernel
abbrev cJ4_iterator : ByteArray := prog_38_method_7_code
def yJ4_iterator : MethodName := ⟨RJ4, "iterator", "()Ljava/util/Iterator;"⟩
theorem dJ4_iterator_0 : decode cJ4_iterator 0 = .ok (.aload_n 0, 1) := by decide +kernel
theorem dJ4_iterator_1 : decode cJ4_iterator 1 = .ok (.invokevirtual 65, 3) := by decide +kernel
theorem dJ4_iterator_4 : decode cJ4_iterator 4 = .ok (.areturn, 1) := by decide +kernel
theorem q124 : (Jvm.Cond.initialized "java/util/AbstractSequentialList") ∈ lw_all := lw_g (lw_at lw_m1 7 rfl) rfl
theorem q231 : (Jvm.Cond.instanceMethod ({ cls := "java/util/AbstractSequentialList", name := "<init>", desc := "()V" } : Jvm.MethodName)) ∈ lw_all := lw_g (lw_at lw_m1 114 rfl) rfl
theorem q232 : (Jvm.Cond.code ({ cls := "java/util/AbstractSequentialList", name := "<init>", desc := "()V" } : Jvm.MethodName) prog_38_method_1_code (1 : Nat) (Option.none : Option Jvm.ClassFile.FieldType)) ∈ lw_all := lw_g (lw_at lw_m1 115 rfl) rfl
theorem q233 : (Jvm.Cond.methodLink "java/util/AbstractSequentialList" (1 : Nat) ({ cls := "java/util/AbstractList", name := "<init>", desc := "()V" } : Jvm.MethodName)) ∈ lw_all := lw_g (lw_at lw_m1 116 rfl) rfl
theorem q1052 : (Jvm.Cond.declares ({ cls := "java/util/AbstractSequentialList", name := "iterator", desc := "()Ljava/util/Iterator;" } : Jvm.MethodName)) ∈ lw_tbl := lw_at lw_m4 215 rfl
theorem q1054 : (Jvm.Cond.instanceMethod ({ cls := "java/util/AbstractSequentialList", name := "iterator", desc := "()Ljava/util/Iterator;" } : Jvm.MethodName)) ∈ lw_all := lw_g (lw_at lw_m4 217 rfl) rfl
theorem q1055 : (Jvm.Cond.code ({ cls := "java/util/AbstractSequentialList", name := "iterator", desc := "()Ljava/util/Iterator;" } : Jvm.MethodName) prog_38_method_7_code (1 : Nat) (Option.some (Jvm.ClassFile.FieldType.object "java/util/Iterator"))) ∈ lw_all := lw_g (lw_at lw_m4 218 rfl) rfl
theorem q1056 : (Jvm.Cond.methodLink "java/util/AbstractSequentialList" (65 : Nat) ({ cls := "java/util/AbstractSequentialList", name := "listIterator", desc := "()Ljava/util/ListIterator;" } : Jvm.MethodName)) ∈ lw_all := lw_g (lw_at lw_m4 219 rfl) rfl
theorem q1057 : (Jvm.Cond.sameMethod "java/util/AbstractSequentialList" "java/util/AbstractList" "listIterator" "()Ljava/util/ListIterator;") ∈ lw_all := lw_g (lw_at lw_m4 220 rfl) rfl
/-! java/util/LinkedList -/
set_option maxRecDepth 100000
def RJ5 : String := "java/util/LinkedList"
def TJ5 : u_T := fun k => match k with
  | 0 => ("java/util/AbstractList", "modCount", "I", false)
  | 1 => ("java/util/LinkedList", "size", "I", false)
  | 2 => ("java/util/LinkedList", "first", "Ljava/util/LinkedList$Node;", false)
  | _ => ("java/util/LinkedList", "last", "Ljava/util/LinkedList$Node;", false)
def tyJ5 : Nat → FieldType := fun k => match k with
  | 0 => .int
  | 1 => .int
  | 2 => .object "java/util/LinkedList$Node"
  | _ => .object "java/util/LinkedList$Node"
abbrev wsJ50 : List Cond := u_ws RJ5 TJ5 4
theorem nmJ5 : ∀ a, a < 4 → ∀ b, b < 4 → a ≠ b → (TJ5 a).2.1 ≠ (TJ5 b).2.1 := by decide +kernel
theorem tyJ5_ok : ∀ k, k < 4 → parseFieldDescriptor (TJ5 k).2.2.1 = some (tyJ5 k) := by decide +kernel
abbrev cJ5_init : ByteArray := prog_48_method_1_code
def yJ5_init : MethodName := ⟨RJ5, "<init>", "()V"⟩
def dkwJ5_init_0 : List UInt8 := [42, 183, 0, 1, 42, 3, 181, 0, 7, 177]
abbrev dktJ5_init_0 : List UInt8 := dkwJ5_init_0 ++ []
theorem dksJ5_init_0 : cJ5_init.data.toList.drop 0 = dktJ5_init_0 := by decide +kernel
theorem dJ5_init_0 : decode cJ5_init 0 = .ok (.aload_n 0, 1) := dk_42 (dk_at dksJ5_init_0 0 rfl rfl)
theorem dJ5_init_1 : decode cJ5_init 1 = .ok (.invokespecial 1, 3) := dk_183 0 1 (dk_at dksJ5_init_0 1 rfl rfl)
theorem dJ5_init_4 : decode cJ5_init 4 = .ok (.aload_n 0, 1) := dk_42 (dk_at dksJ5_init_0 4 rfl rfl)
theorem dJ5_init_5 : decode cJ5_init 5 = .ok (.iconst 0, 1) := dk_3 (dk_at dksJ5_init_0 5 rfl rfl)
theorem dJ5_init_6 : decode cJ5_init 6 = .ok (.putfield 7, 3) := dk_181 0 7 (dk_at dksJ5_init_0 6 rfl rfl)
theorem dJ5_init_9 : decode cJ5_init 9 = .ok (.return_, 1) := dk_177 (dk_at dksJ5_init_0 9 rfl rfl)
abbrev cJ5_size : ByteArray := prog_48_method_16_code
def yJ5_size : MethodName := ⟨RJ5, "size", "()I"⟩
theorem dJ5_size_0 : decode cJ5_size 0 = .ok (.aload_n 0, 1) := by decide +kernel
theorem dJ5_size_1 : decode cJ5_size 1 = .ok (.getfield 7, 3) := by decide +kernel
theorem dJ5_size_4 : decode cJ5_size 4 = .ok (.ireturn, 1) := by decide +kernel
abbrev cJ5_addLast : ByteArray := prog_48_method_14_code
def yJ5_addLast : MethodName := ⟨RJ5, "addLast", "(Ljava/lang/Object;)V"⟩
def dkwJ5_addLast_0 : List UInt8 := [42, 43, 182, 0, 57, 177]
abbrev dktJ5_addLast_0 : List UInt8 := dkwJ5_addLast_0 ++ []
theorem dksJ5_addLast_0 : cJ5_addLast.data.toList.drop 0 = dktJ5_addLast_0 := by decide +kernel
theorem dJ5_addLast_0 : decode cJ5_addLast 0 = .ok (.aload_n 0, 1) := dk_42 (dk_at dksJ5_addLast_0 0 rfl rfl)
theorem dJ5_addLast_1 : decode cJ5_addLast 1 = .ok (.aload_n 1, 1) := dk_43 (dk_at dksJ5_addLast_0 1 rfl rfl)
theorem dJ5_addLast_2 : decode cJ5_addLast 2 = .ok (.invokevirtual 57, 3) := dk_182 0 57 (dk_at dksJ5_addLast_0 2 rfl rfl)
theorem dJ5_addLast_5 : decode cJ5_addLast 5 = .ok (.return_, 1) := dk_177 (dk_at dksJ5_addLast_0 5 rfl rfl)
abbrev cJ5_linkLast : ByteArray := prog_48_method_4_code
def yJ5_linkLast : MethodName := ⟨RJ5, "linkLast", "(Ljava/lang/Object;)V"⟩
def dkwJ5_linkLast_2 : List UInt8 := [181, 0, 7, 42, 89, 180, 0, 33, 4, 96, 181, 0, 33, 177]
abbrev dktJ5_linkLast_2 : List UInt8 := dkwJ5_linkLast_2 ++ []
def dkwJ5_linkLast_1 : List UInt8 := [199, 0, 11, 42, 45, 181, 0, 18, 167, 0, 8, 44, 45, 181, 0, 36, 42, 89, 180, 0, 7, 4, 96]
abbrev dktJ5_linkLast_1 : List UInt8 := dkwJ5_linkLast_1 ++ dktJ5_linkLast_2
def dkwJ5_linkLast_0 : List UInt8 := [42, 180, 0, 27, 77, 187, 0, 22, 89, 44, 43, 1, 183, 0, 24, 78, 42, 45, 181, 0, 27, 44]
abbrev dktJ5_linkLast_0 : List UInt8 := dkwJ5_linkLast_0 ++ dktJ5_linkLast_1
theorem dksJ5_linkLast_0 : cJ5_linkLast.data.toList.drop 0 = dktJ5_linkLast_0 := by decide +kernel
theorem dksJ5_linkLast_1 : cJ5_linkLast.data.toList.drop 22 = dktJ5_linkLast_1 := dk_seg dksJ5_linkLast_0 22 rfl rfl
theorem dksJ5_linkLast_2 : cJ5_linkLast.data.toList.drop 45 = dktJ5_linkLast_2 := dk_seg dksJ5_linkLast_1 23 rfl rfl
theorem dJ5_linkLast_0 : decode cJ5_linkLast 0 = .ok (.aload_n 0, 1) := dk_42 (dk_at dksJ5_linkLast_0 0 rfl rfl)
theorem dJ5_linkLast_1 : decode cJ5_linkLast 1 = .ok (.getfield 27, 3) := dk_180 0 27 (dk_at dksJ5_linkLast_0 1 rfl rfl)
theorem dJ5_linkLast_4 : decode cJ5_linkLast 4 = .ok (.astore_n 2, 1) := dk_77 (dk_at dksJ5_linkLast_0 4 rfl rfl)
theorem dJ5_linkLast_5 : decode cJ5_linkLast 5 = .ok (.new 22, 3) := dk_187 0 22 (dk_at dksJ5_linkLast_0 5 rfl rfl)
theorem dJ5_linkLast_8 : decode cJ5_linkLast 8 = .ok (.dup, 1) := dk_89 (dk_at dksJ5_linkLast_0 8 rfl rfl)
theorem dJ5_linkLast_9 : decode cJ5_linkLast 9 = .ok (.aload_n 2, 1) := dk_44 (dk_at dksJ5_linkLast_0 9 rfl rfl)
theorem dJ5_linkLast_10 : decode cJ5_linkLast 10 = .ok (.aload_n 1, 1) := dk_43 (dk_at dksJ5_linkLast_0 10 rfl rfl)
theorem dJ5_linkLast_11 : decode cJ5_linkLast 11 = .ok (.aconst_null, 1) := dk_1 (dk_at dksJ5_linkLast_0 11 rfl rfl)
theorem dJ5_linkLast_12 : decode cJ5_linkLast 12 = .ok (.invokespecial 24, 3) := dk_183 0 24 (dk_at dksJ5_linkLast_0 12 rfl rfl)
theorem dJ5_linkLast_15 : decode cJ5_linkLast 15 = .ok (.astore_n 3, 1) := dk_78 (dk_at dksJ5_linkLast_0 15 rfl rfl)
theorem dJ5_linkLast_16 : decode cJ5_linkLast 16 = .ok (.aload_n 0, 1) := dk_42 (dk_at dksJ5_linkLast_0 16 rfl rfl)
theorem dJ5_linkLast_17 : decode cJ5_linkLast 17 = .ok (.aload_n 3, 1) := dk_45 (dk_at dksJ5_linkLast_0 17 rfl rfl)
theorem dJ5_linkLast_18 : decode cJ5_linkLast 18 = .ok (.putfield 27, 3) := dk_181 0 27 (dk_at dksJ5_linkLast_0 18 rfl rfl)
theorem dJ5_linkLast_21 : decode cJ5_linkLast 21 = .ok (.aload_n 2, 1) := dk_44 (dk_at dksJ5_linkLast_0 21 rfl rfl)
theorem dJ5_linkLast_22 : decode cJ5_linkLast 22 = .ok (.ifnonnull 11, 3) := dk_199 0 11 (dk_at dksJ5_linkLast_1 0 rfl rfl)
theorem dJ5_linkLast_25 : decode cJ5_linkLast 25 = .ok (.aload_n 0, 1) := dk_42 (dk_at dksJ5_linkLast_1 3 rfl rfl)
theorem dJ5_linkLast_26 : decode cJ5_linkLast 26 = .ok (.aload_n 3, 1) := dk_45 (dk_at dksJ5_linkLast_1 4 rfl rfl)
theorem dJ5_linkLast_27 : decode cJ5_linkLast 27 = .ok (.putfield 18, 3) := dk_181 0 18 (dk_at dksJ5_linkLast_1 5 rfl rfl)
theorem dJ5_linkLast_30 : decode cJ5_linkLast 30 = .ok (.goto 8, 3) := dk_167 0 8 (dk_at dksJ5_linkLast_1 8 rfl rfl)
theorem dJ5_linkLast_33 : decode cJ5_linkLast 33 = .ok (.aload_n 2, 1) := dk_44 (dk_at dksJ5_linkLast_1 11 rfl rfl)
theorem dJ5_linkLast_34 : decode cJ5_linkLast 34 = .ok (.aload_n 3, 1) := dk_45 (dk_at dksJ5_linkLast_1 12 rfl rfl)
theorem dJ5_linkLast_35 : decode cJ5_linkLast 35 = .ok (.putfield 36, 3) := dk_181 0 36 (dk_at dksJ5_linkLast_1 13 rfl rfl)
theorem dJ5_linkLast_38 : decode cJ5_linkLast 38 = .ok (.aload_n 0, 1) := dk_42 (dk_at dksJ5_linkLast_1 16 rfl rfl)
theorem dJ5_linkLast_39 : decode cJ5_linkLast 39 = .ok (.dup, 1) := dk_89 (dk_at dksJ5_linkLast_1 17 rfl rfl)
theorem dJ5_linkLast_40 : decode cJ5_linkLast 40 = .ok (.getfield 7, 3) := dk_180 0 7 (dk_at dksJ5_linkLast_1 18 rfl rfl)
theorem dJ5_linkLast_43 : decode cJ5_linkLast 43 = .ok (.iconst 1, 1) := dk_4 (dk_at dksJ5_linkLast_1 21 rfl rfl)
theorem dJ5_linkLast_44 : decode cJ5_linkLast 44 = .ok (.iadd, 1) := dk_96 (dk_at dksJ5_linkLast_1 22 rfl rfl)
theorem dJ5_linkLast_45 : decode cJ5_linkLast 45 = .ok (.putfield 7, 3) := dk_181 0 7 (dk_at dksJ5_linkLast_2 0 rfl rfl)
theorem dJ5_linkLast_48 : decode cJ5_linkLast 48 = .ok (.aload_n 0, 1) := dk_42 (dk_at dksJ5_linkLast_2 3 rfl rfl)
theorem dJ5_linkLast_49 : decode cJ5_linkLast 49 = .ok (.dup, 1) := dk_89 (dk_at dksJ5_linkLast_2 4 rfl rfl)
theorem dJ5_linkLast_50 : decode cJ5_linkLast 50 = .ok (.getfield 33, 3) := dk_180 0 33 (dk_at dksJ5_linkLast_2 5 rfl rfl)
theorem dJ5_linkLast_53 : decode cJ5_linkLast 53 = .ok (.iconst 1, 1) := dk_4 (dk_at dksJ5_linkLast_2 8 rfl rfl)
theorem dJ5_linkLast_54 : decode cJ5_linkLast 54 = .ok (.iadd, 1) := dk_96 (dk_at dksJ5_linkLast_2 9 rfl rfl)
theorem dJ5_linkLast_55 : decode cJ5_linkLast 55 = .ok (.putfield 33, 3) := dk_181 0 33 (dk_at dksJ5_linkLast_2 10 rfl rfl)
theorem dJ5_linkLast_58 : decode cJ5_linkLast 58 = .ok (.return_, 1) := dk_177 (dk_at dksJ5_linkLast_2 13 rfl rfl)
abbrev cJ5_get : ByteArray := prog_48_method_22_code
def yJ5_get : MethodName := ⟨RJ5, "get", "(I)Ljava/lang/Object;"⟩
def dkwJ5_get_0 : List UInt8 := [42, 27, 182, 0, 90, 42, 27, 182, 0, 86, 180, 0, 39, 176]
abbrev dktJ5_get_0 : List UInt8 := dkwJ5_get_0 ++ []
theorem dksJ5_get_0 : cJ5_get.data.toList.drop 0 = dktJ5_get_0 := by decide +kernel
theorem dJ5_get_0 : decode cJ5_get 0 = .ok (.aload_n 0, 1) := dk_42 (dk_at dksJ5_get_0 0 rfl rfl)
theorem dJ5_get_1 : decode cJ5_get 1 = .ok (.iload_n 1, 1) := dk_27 (dk_at dksJ5_get_0 1 rfl rfl)
theorem dJ5_get_2 : decode cJ5_get 2 = .ok (.invokevirtual 90, 3) := dk_182 0 90 (dk_at dksJ5_get_0 2 rfl rfl)
theorem dJ5_get_5 : decode cJ5_get 5 = .ok (.aload_n 0, 1) := dk_42 (dk_at dksJ5_get_0 5 rfl rfl)
theorem dJ5_get_6 : decode cJ5_get 6 = .ok (.iload_n 1, 1) := dk_27 (dk_at dksJ5_get_0 6 rfl rfl)
theorem dJ5_get_7 : decode cJ5_get 7 = .ok (.invokevirtual 86, 3) := dk_182 0 86 (dk_at dksJ5_get_0 7 rfl rfl)
theorem dJ5_get_10 : decode cJ5_get 10 = .ok (.getfield 39, 3) := dk_180 0 39 (dk_at dksJ5_get_0 10 rfl rfl)
theorem dJ5_get_13 : decode cJ5_get 13 = .ok (.areturn, 1) := dk_176 (dk_at dksJ5_get_0 13 rfl rfl)
abbrev cJ5_checkElementIndex : ByteArray := prog_48_method_29_code
def yJ5_checkElementIndex : MethodName := ⟨RJ5, "checkElementIndex", "(I)V"⟩
def dkwJ5_checkElementIndex_0 : List UInt8 := [42, 27, 182, 0, 115, 154, 0, 16, 187, 0, 119, 89, 42, 27, 182, 0, 121, 183, 0, 125, 191, 177]
abbrev dktJ5_checkElementIndex_0 : List UInt8 := dkwJ5_checkElementIndex_0 ++ []
theorem dksJ5_checkElementIndex_0 : cJ5_checkElementIndex.data.toList.drop 0 = dktJ5_checkElementIndex_0 := by decide +kernel
theorem dJ5_checkElementIndex_0 : decode cJ5_checkElementIndex 0 = .ok (.aload_n 0, 1) := dk_42 (dk_at dksJ5_checkElementIndex_0 0 rfl rfl)
theorem dJ5_checkElementIndex_1 : decode cJ5_checkElementIndex 1 = .ok (.iload_n 1, 1) := dk_27 (dk_at dksJ5_checkElementIndex_0 1 rfl rfl)
theorem dJ5_checkElementIndex_2 : decode cJ5_checkElementIndex 2 = .ok (.invokevirtual 115, 3) := dk_182 0 115 (dk_at dksJ5_checkElementIndex_0 2 rfl rfl)
theorem dJ5_checkElementIndex_5 : decode cJ5_checkElementIndex 5 = .ok (.ifCond .ne 16, 3) := dk_154 0 16 (dk_at dksJ5_checkElementIndex_0 5 rfl rfl)
theorem dJ5_checkElementIndex_8 : decode cJ5_checkElementIndex 8 = .ok (.new 119, 3) := dk_187 0 119 (dk_at dksJ5_checkElementIndex_0 8 rfl rfl)
theorem dJ5_checkElementIndex_11 : decode cJ5_checkElementIndex 11 = .ok (.dup, 1) := dk_89 (dk_at dksJ5_checkElementIndex_0 11 rfl rfl)
theorem dJ5_checkElementIndex_12 : decode cJ5_checkElementIndex 12 = .ok (.aload_n 0, 1) := dk_42 (dk_at dksJ5_checkElementIndex_0 12 rfl rfl)
theorem dJ5_checkElementIndex_13 : decode cJ5_checkElementIndex 13 = .ok (.iload_n 1, 1) := dk_27 (dk_at dksJ5_checkElementIndex_0 13 rfl rfl)
theorem dJ5_checkElementIndex_14 : decode cJ5_checkElementIndex 14 = .ok (.invokevirtual 121, 3) := dk_182 0 121 (dk_at dksJ5_checkElementIndex_0 14 rfl rfl)
theorem dJ5_checkElementIndex_17 : decode cJ5_checkElementIndex 17 = .ok (.invokespecial 125, 3) := dk_183 0 125 (dk_at dksJ5_checkElementIndex_0 17 rfl rfl)
theorem dJ5_checkElementIndex_20 : decode cJ5_checkElementIndex 20 = .ok (.athrow, 1) := dk_191 (dk_at dksJ5_checkElementIndex_0 20 rfl rfl)
theorem dJ5_checkElementIndex_21 : decode cJ5_checkElementIndex 21 = .ok (.return_, 1) := dk_177 (dk_at dksJ5_checkElementIndex_0 21 rfl rfl)
abbrev cJ5_isElementIndex : ByteArray := prog_48_method_26_code
def yJ5_isElementIndex : MethodName := ⟨RJ5, "isElementIndex", "(I)Z"⟩
def dkwJ5_isElementIndex_0 : List UInt8 := [27, 155, 0, 15, 27, 42, 180, 0, 7, 162, 0, 7, 4, 167, 0, 4, 3, 172]
abbrev dktJ5_isElementIndex_0 : List UInt8 := dkwJ5_isElementIndex_0 ++ []
theorem dksJ5_isElementIndex_0 : cJ5_isElementIndex.data.toList.drop 0 = dktJ5_isElementIndex_0 := by decide +kernel
theorem dJ5_isElementIndex_0 : decode cJ5_isElementIndex 0 = .ok (.iload_n 1, 1) := dk_27 (dk_at dksJ5_isElementIndex_0 0 rfl rfl)
theorem dJ5_isElementIndex_1 : decode cJ5_isElementIndex 1 = .ok (.ifCond .lt 15, 3) := dk_155 0 15 (dk_at dksJ5_isElementIndex_0 1 rfl rfl)
theorem dJ5_isElementIndex_4 : decode cJ5_isElementIndex 4 = .ok (.iload_n 1, 1) := dk_27 (dk_at dksJ5_isElementIndex_0 4 rfl rfl)
theorem dJ5_isElementIndex_5 : decode cJ5_isElementIndex 5 = .ok (.aload_n 0, 1) := dk_42 (dk_at dksJ5_isElementIndex_0 5 rfl rfl)
theorem dJ5_isElementIndex_6 : decode cJ5_isElementIndex 6 = .ok (.getfield 7, 3) := dk_180 0 7 (dk_at dksJ5_isElementIndex_0 6 rfl rfl)
theorem dJ5_isElementIndex_9 : decode cJ5_isElementIndex 9 = .ok (.if_icmp .ge 7, 3) := dk_162 0 7 (dk_at dksJ5_isElementIndex_0 9 rfl rfl)
theorem dJ5_isElementIndex_12 : decode cJ5_isElementIndex 12 = .ok (.iconst 1, 1) := dk_4 (dk_at dksJ5_isElementIndex_0 12 rfl rfl)
theorem dJ5_isElementIndex_13 : decode cJ5_isElementIndex 13 = .ok (.goto 4, 3) := dk_167 0 4 (dk_at dksJ5_isElementIndex_0 13 rfl rfl)
theorem dJ5_isElementIndex_16 : decode cJ5_isElementIndex 16 = .ok (.iconst 0, 1) := dk_3 (dk_at dksJ5_isElementIndex_0 16 rfl rfl)
theorem dJ5_isElementIndex_17 : decode cJ5_isElementIndex 17 = .ok (.ireturn, 1) := dk_172 (dk_at dksJ5_isElementIndex_0 17 rfl rfl)
abbrev cJ5_node : ByteArray := prog_48_method_31_code
def yJ5_node : MethodName := ⟨RJ5, "node", "(I)Ljava/util/LinkedList$Node;"⟩
def dkwJ5_node_2 : List UInt8 := [29, 27, 164, 0, 14, 44, 180, 0, 30, 77, 132, 3, 255, 167, 255, 243, 44, 176]
abbrev dktJ5_node_2 : List UInt8 := dkwJ5_node_2 ++ []
def dkwJ5_node_1 : List UInt8 := [180, 0, 36, 77, 132, 3, 1, 167, 255, 243, 44, 176, 42, 180, 0, 27, 77, 42, 180, 0, 7, 4, 100, 62]
abbrev dktJ5_node_1 : List UInt8 := dkwJ5_node_1 ++ dktJ5_node_2
def dkwJ5_node_0 : List UInt8 := [27, 42, 180, 0, 7, 4, 122, 162, 0, 28, 42, 180, 0, 18, 77, 3, 62, 29, 27, 162, 0, 14, 44]
abbrev dktJ5_node_0 : List UInt8 := dkwJ5_node_0 ++ dktJ5_node_1
theorem dksJ5_node_0 : cJ5_node.data.toList.drop 0 = dktJ5_node_0 := by decide +kernel
theorem dksJ5_node_1 : cJ5_node.data.toList.drop 23 = dktJ5_node_1 := dk_seg dksJ5_node_0 23 rfl rfl
theorem dksJ5_node_2 : cJ5_node.data.toList.drop 47 = dktJ5_node_2 := dk_seg dksJ5_node_1 24 rfl rfl
theorem dJ5_node_0 : decode cJ5_node 0 = .ok (.iload_n 1, 1) := dk_27 (dk_at dksJ5_node_0 0 rfl rfl)
theorem dJ5_node_1 : decode cJ5_node 1 = .ok (.aload_n 0, 1) := dk_42 (dk_at dksJ5_node_0 1 rfl rfl)
theorem dJ5_node_2 : decode cJ5_node 2 = .ok (.getfield 7, 3) := dk_180 0 7 (dk_at dksJ5_node_0 2 rfl rfl)
theorem dJ5_node_5 : decode cJ5_node 5 = .ok (.iconst 1, 1) := dk_4 (dk_at dksJ5_node_0 5 rfl rfl)
theorem dJ5_node_6 : decode cJ5_node 6 = .ok (.ishr, 1) := dk_122 (dk_at dksJ5_node_0 6 rfl rfl)
theorem dJ5_node_7 : decode cJ5_node 7 = .ok (.if_icmp .ge 28, 3) := dk_162 0 28 (dk_at dksJ5_node_0 7 rfl rfl)
theorem dJ5_node_10 : decode cJ5_node 10 = .ok (.aload_n 0, 1) := dk_42 (dk_at dksJ5_node_0 10 rfl rfl)
theorem dJ5_node_11 : decode cJ5_node 11 = .ok (.getfield 18, 3) := dk_180 0 18 (dk_at dksJ5_node_0 11 rfl rfl)
theorem dJ5_node_14 : decode cJ5_node 14 = .ok (.astore_n 2, 1) := dk_77 (dk_at dksJ5_node_0 14 rfl rfl)
theorem dJ5_node_15 : decode cJ5_node 15 = .ok (.iconst 0, 1) := dk_3 (dk_at dksJ5_node_0 15 rfl rfl)
theorem dJ5_node_16 : decode cJ5_node 16 = .ok (.istore_n 3, 1) := dk_62 (dk_at dksJ5_node_0 16 rfl rfl)
theorem dJ5_node_17 : decode cJ5_node 17 = .ok (.iload_n 3, 1) := dk_29 (dk_at dksJ5_node_0 17 rfl rfl)
theorem dJ5_node_18 : decode cJ5_node 18 = .ok (.iload_n 1, 1) := dk_27 (dk_at dksJ5_node_0 18 rfl rfl)
theorem dJ5_node_19 : decode cJ5_node 19 = .ok (.if_icmp .ge 14, 3) := dk_162 0 14 (dk_at dksJ5_node_0 19 rfl rfl)
theorem dJ5_node_22 : decode cJ5_node 22 = .ok (.aload_n 2, 1) := dk_44 (dk_at dksJ5_node_0 22 rfl rfl)
theorem dJ5_node_23 : decode cJ5_node 23 = .ok (.getfield 36, 3) := dk_180 0 36 (dk_at dksJ5_node_1 0 rfl rfl)
theorem dJ5_node_26 : decode cJ5_node 26 = .ok (.astore_n 2, 1) := dk_77 (dk_at dksJ5_node_1 3 rfl rfl)
theorem dJ5_node_27 : decode cJ5_node 27 = .ok (.iinc 3 1, 3) := dk_132 3 1 (dk_at dksJ5_node_1 4 rfl rfl)
theorem dJ5_node_30 : decode cJ5_node 30 = .ok (.goto (-13), 3) := dk_167 255 243 (dk_at dksJ5_node_1 7 rfl rfl)
theorem dJ5_node_33 : decode cJ5_node 33 = .ok (.aload_n 2, 1) := dk_44 (dk_at dksJ5_node_1 10 rfl rfl)
theorem dJ5_node_34 : decode cJ5_node 34 = .ok (.areturn, 1) := dk_176 (dk_at dksJ5_node_1 11 rfl rfl)
theorem dJ5_node_35 : decode cJ5_node 35 = .ok (.aload_n 0, 1) := dk_42 (dk_at dksJ5_node_1 12 rfl rfl)
theorem dJ5_node_36 : decode cJ5_node 36 = .ok (.getfield 27, 3) := dk_180 0 27 (dk_at dksJ5_node_1 13 rfl rfl)
theorem dJ5_node_39 : decode cJ5_node 39 = .ok (.astore_n 2, 1) := dk_77 (dk_at dksJ5_node_1 16 rfl rfl)
theorem dJ5_node_40 : decode cJ5_node 40 = .ok (.aload_n 0, 1) := dk_42 (dk_at dksJ5_node_1 17 rfl rfl)
theorem dJ5_node_41 : decode cJ5_node 41 = .ok (.getfield 7, 3) := dk_180 0 7 (dk_at dksJ5_node_1 18 rfl rfl)
theorem dJ5_node_44 : decode cJ5_node 44 = .ok (.iconst 1, 1) := dk_4 (dk_at dksJ5_node_1 21 rfl rfl)
theorem dJ5_node_45 : decode cJ5_node 45 = .ok (.isub, 1) := dk_100 (dk_at dksJ5_node_1 22 rfl rfl)
theorem dJ5_node_46 : decode cJ5_node 46 = .ok (.istore_n 3, 1) := dk_62 (dk_at dksJ5_node_1 23 rfl rfl)
theorem dJ5_node_47 : decode cJ5_node 47 = .ok (.iload_n 3, 1) := dk_29 (dk_at dksJ5_node_2 0 rfl rfl)
theorem dJ5_node_48 : decode cJ5_node 48 = .ok (.iload_n 1, 1) := dk_27 (dk_at dksJ5_node_2 1 rfl rfl)
theorem dJ5_node_49 : decode cJ5_node 49 = .ok (.if_icmp .le 14, 3) := dk_164 0 14 (dk_at dksJ5_node_2 2 rfl rfl)
theorem dJ5_node_52 : decode cJ5_node 52 = .ok (.aload_n 2, 1) := dk_44 (dk_at dksJ5_node_2 5 rfl rfl)
theorem dJ5_node_53 : decode cJ5_node 53 = .ok (.getfield 30, 3) := dk_180 0 30 (dk_at dksJ5_node_2 6 rfl rfl)
theorem dJ5_node_56 : decode cJ5_node 56 = .ok (.astore_n 2, 1) := dk_77 (dk_at dksJ5_node_2 9 rfl rfl)
theorem dJ5_node_57 : decode cJ5_node 57 = .ok (.iinc 3 (-1), 3) := dk_132 3 255 (dk_at dksJ5_node_2 10 rfl rfl)
theorem dJ5_node_60 : decode cJ5_node 60 = .ok (.goto (-13), 3) := dk_167 255 243 (dk_at dksJ5_node_2 13 rfl rfl)
theorem dJ5_node_63 : decode cJ5_node 63 = .ok (.aload_n 2, 1) := dk_44 (dk_at dksJ5_node_2 16 rfl rfl)
theorem dJ5_node_64 : decode cJ5_node 64 = .ok (.areturn, 1) := dk_176 (dk_at dksJ5_node_2 17 rfl rfl)
abbrev cJ5_listIterator : ByteArray := prog_48_method_49_code
def yJ5_listIterator : MethodName := ⟨RJ5, "listIterator", "(I)Ljava/util/ListIterator;"⟩
def dkwJ5_listIterator_0 : List UInt8 := [42, 27, 182, 0, 76, 187, 0, 150, 89, 42, 27, 183, 0, 152, 176]
abbrev dktJ5_listIterator_0 : List UInt8 := dkwJ5_listIterator_0 ++ []
theorem dksJ5_listIterator_0 : cJ5_listIterator.data.toList.drop 0 = dktJ5_listIterator_0 := by decide +kernel
theorem dJ5_listIterator_0 : decode cJ5_listIterator 0 = .ok (.aload_n 0, 1) := dk_42 (dk_at dksJ5_listIterator_0 0 rfl rfl)
theorem dJ5_listIterator_1 : decode cJ5_listIterator 1 = .ok (.iload_n 1, 1) := dk_27 (dk_at dksJ5_listIterator_0 1 rfl rfl)
theorem dJ5_listIterator_2 : decode cJ5_listIterator 2 = .ok (.invokevirtual 76, 3) := dk_182 0 76 (dk_at dksJ5_listIterator_0 2 rfl rfl)
theorem dJ5_listIterator_5 : decode cJ5_listIterator 5 = .ok (.new 150, 3) := dk_187 0 150 (dk_at dksJ5_listIterator_0 5 rfl rfl)
theorem dJ5_listIterator_8 : decode cJ5_listIterator 8 = .ok (.dup, 1) := dk_89 (dk_at dksJ5_listIterator_0 8 rfl rfl)
theorem dJ5_listIterator_9 : decode cJ5_listIterator 9 = .ok (.aload_n 0, 1) := dk_42 (dk_at dksJ5_listIterator_0 9 rfl rfl)
theorem dJ5_listIterator_10 : decode cJ5_listIterator 10 = .ok (.iload_n 1, 1) := dk_27 (dk_at dksJ5_listIterator_0 10 rfl rfl)
theorem dJ5_listIterator_11 : decode cJ5_listIterator 11 = .ok (.invokespecial 152, 3) := dk_183 0 152 (dk_at dksJ5_listIterator_0 11 rfl rfl)
theorem dJ5_listIterator_14 : decode cJ5_listIterator 14 = .ok (.areturn, 1) := dk_176 (dk_at dksJ5_listIterator_0 14 rfl rfl)
abbrev cJ5_checkPositionIndex : ByteArray := prog_48_method_30_code
def yJ5_checkPositionIndex : MethodName := ⟨RJ5, "checkPositionIndex", "(I)V"⟩
def dkwJ5_checkPositionIndex_0 : List UInt8 := [42, 27, 182, 0, 128, 154, 0, 16, 187, 0, 119, 89, 42, 27, 182, 0, 121, 183, 0, 125, 191, 177]
abbrev dktJ5_checkPositionIndex_0 : List UInt8 := dkwJ5_checkPositionIndex_0 ++ []
theorem dksJ5_checkPositionIndex_0 : cJ5_checkPositionIndex.data.toList.drop 0 = dktJ5_checkPositionIndex_0 := by decide +kernel
theorem dJ5_checkPositionIndex_0 : decode cJ5_checkPositionIndex 0 = .ok (.aload_n 0, 1) := dk_42 (dk_at dksJ5_checkPositionIndex_0 0 rfl rfl)
theorem dJ5_checkPositionIndex_1 : decode cJ5_checkPositionIndex 1 = .ok (.iload_n 1, 1) := dk_27 (dk_at dksJ5_checkPositionIndex_0 1 rfl rfl)
theorem dJ5_checkPositionIndex_2 : decode cJ5_checkPositionIndex 2 = .ok (.invokevirtual 128, 3) := dk_182 0 128 (dk_at dksJ5_checkPositionIndex_0 2 rfl rfl)
theorem dJ5_checkPositionIndex_5 : decode cJ5_checkPositionIndex 5 = .ok (.ifCond .ne 16, 3) := dk_154 0 16 (dk_at dksJ5_checkPositionIndex_0 5 rfl rfl)
theorem dJ5_checkPositionIndex_8 : decode cJ5_checkPositionIndex 8 = .ok (.new 119, 3) := dk_187 0 119 (dk_at dksJ5_checkPositionIndex_0 8 rfl rfl)
theorem dJ5_checkPositionIndex_11 : decode cJ5_checkPositionIndex 11 = .ok (.dup, 1) := dk_89 (dk_at dksJ5_checkPositionIndex_0 11 rfl rfl)
theorem dJ5_checkPositionIndex_12 : decode cJ5_checkPositionIndex 12 = .ok (.aload_n 0, 1) := dk_42 (dk_at dksJ5_checkPositionIndex_0 12 rfl rfl)
theorem dJ5_checkPositionIndex_13 : decode cJ5_checkPositionIndex 13 = .ok (.iload_n 1, 1) := dk_27 (dk_at dksJ5_checkPositionIndex_0 13 rfl rfl)
theorem dJ5_checkPositionIndex_14 : decode cJ5_checkPositionIndex 14 = .ok (.invokevirtual 121, 3) := dk_182 0 121 (dk_at dksJ5_checkPositionIndex_0 14 rfl rfl)
theorem dJ5_checkPositionIndex_17 : decode cJ5_checkPositionIndex 17 = .ok (.invokespecial 125, 3) := dk_183 0 125 (dk_at dksJ5_checkPositionIndex_0 17 rfl rfl)
theorem dJ5_checkPositionIndex_20 : decode cJ5_checkPositionIndex 20 = .ok (.athrow, 1) := dk_191 (dk_at dksJ5_checkPositionIndex_0 20 rfl rfl)
theorem dJ5_checkPositionIndex_21 : decode cJ5_checkPositionIndex 21 = .ok (.return_, 1) := dk_177 (dk_at dksJ5_checkPositionIndex_0 21 rfl rfl)
abbrev cJ5_isPositionIndex : ByteArray := prog_48_method_27_code
def yJ5_isPositionIndex : MethodName := ⟨RJ5, "isPositionIndex", "(I)Z"⟩
def dkwJ5_isPositionIndex_0 : List UInt8 := [27, 155, 0, 15, 27, 42, 180, 0, 7, 163, 0, 7, 4, 167, 0, 4, 3, 172]
abbrev dktJ5_isPositionIndex_0 : List UInt8 := dkwJ5_isPositionIndex_0 ++ []
theorem dksJ5_isPositionIndex_0 : cJ5_isPositionIndex.data.toList.drop 0 = dktJ5_isPositionIndex_0 := by decide +kernel
theorem dJ5_isPositionIndex_0 : decode cJ5_isPositionIndex 0 = .ok (.iload_n 1, 1) := dk_27 (dk_at dksJ5_isPositionIndex_0 0 rfl rfl)
theorem dJ5_isPositionIndex_1 : decode cJ5_isPositionIndex 1 = .ok (.ifCond .lt 15, 3) := dk_155 0 15 (dk_at dksJ5_isPositionIndex_0 1 rfl rfl)
theorem dJ5_isPositionIndex_4 : decode cJ5_isPositionIndex 4 = .ok (.iload_n 1, 1) := dk_27 (dk_at dksJ5_isPositionIndex_0 4 rfl rfl)
theorem dJ5_isPositionIndex_5 : decode cJ5_isPositionIndex 5 = .ok (.aload_n 0, 1) := dk_42 (dk_at dksJ5_isPositionIndex_0 5 rfl rfl)
theorem dJ5_isPositionIndex_6 : decode cJ5_isPositionIndex 6 = .ok (.getfield 7, 3) := dk_180 0 7 (dk_at dksJ5_isPositionIndex_0 6 rfl rfl)
theorem dJ5_isPositionIndex_9 : decode cJ5_isPositionIndex 9 = .ok (.if_icmp .gt 7, 3) := dk_163 0 7 (dk_at dksJ5_isPositionIndex_0 9 rfl rfl)
theorem dJ5_isPositionIndex_12 : decode cJ5_isPositionIndex 12 = .ok (.iconst 1, 1) := dk_4 (dk_at dksJ5_isPositionIndex_0 12 rfl rfl)
theorem dJ5_isPositionIndex_13 : decode cJ5_isPositionIndex 13 = .ok (.goto 4, 3) := dk_167 0 4 (dk_at dksJ5_isPositionIndex_0 13 rfl rfl)
theorem dJ5_isPositionIndex_16 : decode cJ5_isPositionIndex 16 = .ok (.iconst 0, 1) := dk_3 (dk_at dksJ5_isPositionIndex_0 16 rfl rfl)
theorem dJ5_isPositionIndex_17 : decode cJ5_isPositionIndex 17 = .ok (.ireturn, 1) := dk_172 (dk_at dksJ5_isPositionIndex_0 17 rfl rfl)
abbrev cJ5_remove : ByteArray := prog_48_method_25_code
def yJ5_remove : MethodName := ⟨RJ5, "remove", "(I)Ljava/lang/Object;"⟩
def dkwJ5_remove_0 : List UInt8 := [42, 27, 182, 0, 90, 42, 42, 27, 182, 0, 86, 182, 0, 64, 176]
abbrev dktJ5_remove_0 : List UInt8 := dkwJ5_remove_0 ++ []
theorem dksJ5_remove_0 : cJ5_remove.data.toList.drop 0 = dktJ5_remove_0 := by decide +kernel
theorem dJ5_remove_0 : decode cJ5_remove 0 = .ok (.aload_n 0, 1) := dk_42 (dk_at dksJ5_remove_0 0 rfl rfl)
theorem dJ5_remove_1 : decode cJ5_remove 1 = .ok (.iload_n 1, 1) := dk_27 (dk_at dksJ5_remove_0 1 rfl rfl)
theorem dJ5_remove_2 : decode cJ5_remove 2 = .ok (.invokevirtual 90, 3) := dk_182 0 90 (dk_at dksJ5_remove_0 2 rfl rfl)
theorem dJ5_remove_5 : decode cJ5_remove 5 = .ok (.aload_n 0, 1) := dk_42 (dk_at dksJ5_remove_0 5 rfl rfl)
theorem dJ5_remove_6 : decode cJ5_remove 6 = .ok (.aload_n 0, 1) := dk_42 (dk_at dksJ5_remove_0 6 rfl rfl)
theorem dJ5_remove_7 : decode cJ5_remove 7 = .ok (.iload_n 1, 1) := dk_27 (dk_at dksJ5_remove_0 7 rfl rfl)
theorem dJ5_remove_8 : decode cJ5_remove 8 = .ok (.invokevirtual 86, 3) := dk_182 0 86 (dk_at dksJ5_remove_0 8 rfl rfl)
theorem dJ5_remove_11 : decode cJ5_remove 11 = .ok (.invokevirtual 64, 3) := dk_182 0 64 (dk_at dksJ5_remove_0 11 rfl rfl)
theorem dJ5_remove_14 : decode cJ5_remove 14 = .ok (.areturn, 1) := dk_176 (dk_at dksJ5_remove_0 14 rfl rfl)
abbrev cJ5_unlink : ByteArray := prog_48_method_8_code
def yJ5_unlink : MethodName := ⟨RJ5, "unlink", "(Ljava/util/LinkedList$Node;)Ljava/lang/Object;"⟩
def dkwJ5_unlink_3 : List UInt8 := [180, 0, 7, 4, 100, 181, 0, 7, 42, 89, 180, 0, 33, 4, 96, 181, 0, 33, 44, 176]
abbrev dktJ5_unlink_3 : List UInt8 := dkwJ5_unlink_3 ++ []
def dkwJ5_unlink_2 : List UInt8 := [181, 0, 27, 167, 0, 14, 45, 25, 4, 181, 0, 30, 43, 1, 181, 0, 36, 43, 1, 181, 0, 39, 42, 89]
abbrev dktJ5_unlink_2 : List UInt8 := dkwJ5_unlink_2 ++ dktJ5_unlink_3
def dkwJ5_unlink_1 : List UInt8 := [181, 0, 18, 167, 0, 14, 25, 4, 45, 181, 0, 36, 43, 1, 181, 0, 30, 45, 199, 0, 12, 42, 25, 4]
abbrev dktJ5_unlink_1 : List UInt8 := dkwJ5_unlink_1 ++ dktJ5_unlink_2
def dkwJ5_unlink_0 : List UInt8 := [43, 180, 0, 39, 77, 43, 180, 0, 36, 78, 43, 180, 0, 30, 58, 4, 25, 4, 199, 0, 11, 42, 45]
abbrev dktJ5_unlink_0 : List UInt8 := dkwJ5_unlink_0 ++ dktJ5_unlink_1
theorem dksJ5_unlink_0 : cJ5_unlink.data.toList.drop 0 = dktJ5_unlink_0 := by decide +kernel
theorem dksJ5_unlink_1 : cJ5_unlink.data.toList.drop 23 = dktJ5_unlink_1 := dk_seg dksJ5_unlink_0 23 rfl rfl
theorem dksJ5_unlink_2 : cJ5_unlink.data.toList.drop 47 = dktJ5_unlink_2 := dk_seg dksJ5_unlink_1 24 rfl rfl
theorem dksJ5_unlink_3 : cJ5_unlink.data.toList.drop 71 = dktJ5_unlink_3 := dk_seg dksJ5_unlink_2 24 rfl rfl
theorem dJ5_unlink_0 : decode cJ5_unlink 0 = .ok (.aload_n 1, 1) := dk_43 (dk_at dksJ5_unlink_0 0 rfl rfl)
theorem dJ5_unlink_1 : decode cJ5_unlink 1 = .ok (.getfield 39, 3) := dk_180 0 39 (dk_at dksJ5_unlink_0 1 rfl rfl)
theorem dJ5_unlink_4 : decode cJ5_unlink 4 = .ok (.astore_n 2, 1) := dk_77 (dk_at dksJ5_unlink_0 4 rfl rfl)
theorem dJ5_unlink_5 : decode cJ5_unlink 5 = .ok (.aload_n 1, 1) := dk_43 (dk_at dksJ5_unlink_0 5 rfl rfl)
theorem dJ5_unlink_6 : decode cJ5_unlink 6 = .ok (.getfield 36, 3) := dk_180 0 36 (dk_at dksJ5_unlink_0 6 rfl rfl)
theorem dJ5_unlink_9 : decode cJ5_unlink 9 = .ok (.astore_n 3, 1) := dk_78 (dk_at dksJ5_unlink_0 9 rfl rfl)
theorem dJ5_unlink_10 : decode cJ5_unlink 10 = .ok (.aload_n 1, 1) := dk_43 (dk_at dksJ5_unlink_0 10 rfl rfl)
theorem dJ5_unlink_11 : decode cJ5_unlink 11 = .ok (.getfield 30, 3) := dk_180 0 30 (dk_at dksJ5_unlink_0 11 rfl rfl)
theorem dJ5_unlink_14 : decode cJ5_unlink 14 = .ok (.astore 4, 2) := dk_58 4 (dk_at dksJ5_unlink_0 14 rfl rfl)
theorem dJ5_unlink_16 : decode cJ5_unlink 16 = .ok (.aload 4, 2) := dk_25 4 (dk_at dksJ5_unlink_0 16 rfl rfl)
theorem dJ5_unlink_18 : decode cJ5_unlink 18 = .ok (.ifnonnull 11, 3) := dk_199 0 11 (dk_at dksJ5_unlink_0 18 rfl rfl)
theorem dJ5_unlink_21 : decode cJ5_unlink 21 = .ok (.aload_n 0, 1) := dk_42 (dk_at dksJ5_unlink_0 21 rfl rfl)
theorem dJ5_unlink_22 : decode cJ5_unlink 22 = .ok (.aload_n 3, 1) := dk_45 (dk_at dksJ5_unlink_0 22 rfl rfl)
theorem dJ5_unlink_23 : decode cJ5_unlink 23 = .ok (.putfield 18, 3) := dk_181 0 18 (dk_at dksJ5_unlink_1 0 rfl rfl)
theorem dJ5_unlink_26 : decode cJ5_unlink 26 = .ok (.goto 14, 3) := dk_167 0 14 (dk_at dksJ5_unlink_1 3 rfl rfl)
theorem dJ5_unlink_29 : decode cJ5_unlink 29 = .ok (.aload 4, 2) := dk_25 4 (dk_at dksJ5_unlink_1 6 rfl rfl)
theorem dJ5_unlink_31 : decode cJ5_unlink 31 = .ok (.aload_n 3, 1) := dk_45 (dk_at dksJ5_unlink_1 8 rfl rfl)
theorem dJ5_unlink_32 : decode cJ5_unlink 32 = .ok (.putfield 36, 3) := dk_181 0 36 (dk_at dksJ5_unlink_1 9 rfl rfl)
theorem dJ5_unlink_35 : decode cJ5_unlink 35 = .ok (.aload_n 1, 1) := dk_43 (dk_at dksJ5_unlink_1 12 rfl rfl)
theorem dJ5_unlink_36 : decode cJ5_unlink 36 = .ok (.aconst_null, 1) := dk_1 (dk_at dksJ5_unlink_1 13 rfl rfl)
theorem dJ5_unlink_37 : decode cJ5_unlink 37 = .ok (.putfield 30, 3) := dk_181 0 30 (dk_at dksJ5_unlink_1 14 rfl rfl)
theorem dJ5_unlink_40 : decode cJ5_unlink 40 = .ok (.aload_n 3, 1) := dk_45 (dk_at dksJ5_unlink_1 17 rfl rfl)
theorem dJ5_unlink_41 : decode cJ5_unlink 41 = .ok (.ifnonnull 12, 3) := dk_199 0 12 (dk_at dksJ5_unlink_1 18 rfl rfl)
theorem dJ5_unlink_44 : decode cJ5_unlink 44 = .ok (.aload_n 0, 1) := dk_42 (dk_at dksJ5_unlink_1 21 rfl rfl)
theorem dJ5_unlink_45 : decode cJ5_unlink 45 = .ok (.aload 4, 2) := dk_25 4 (dk_at dksJ5_unlink_1 22 rfl rfl)
theorem dJ5_unlink_47 : decode cJ5_unlink 47 = .ok (.putfield 27, 3) := dk_181 0 27 (dk_at dksJ5_unlink_2 0 rfl rfl)
theorem dJ5_unlink_50 : decode cJ5_unlink 50 = .ok (.goto 14, 3) := dk_167 0 14 (dk_at dksJ5_unlink_2 3 rfl rfl)
theorem dJ5_unlink_53 : decode cJ5_unlink 53 = .ok (.aload_n 3, 1) := dk_45 (dk_at dksJ5_unlink_2 6 rfl rfl)
theorem dJ5_unlink_54 : decode cJ5_unlink 54 = .ok (.aload 4, 2) := dk_25 4 (dk_at dksJ5_unlink_2 7 rfl rfl)
theorem dJ5_unlink_56 : decode cJ5_unlink 56 = .ok (.putfield 30, 3) := dk_181 0 30 (dk_at dksJ5_unlink_2 9 rfl rfl)
theorem dJ5_unlink_59 : decode cJ5_unlink 59 = .ok (.aload_n 1, 1) := dk_43 (dk_at dksJ5_unlink_2 12 rfl rfl)
theorem dJ5_unlink_60 : decode cJ5_unlink 60 = .ok (.aconst_null, 1) := dk_1 (dk_at dksJ5_unlink_2 13 rfl rfl)
theorem dJ5_unlink_61 : decode cJ5_unlink 61 = .ok (.putfield 36, 3) := dk_181 0 36 (dk_at dksJ5_unlink_2 14 rfl rfl)
theorem dJ5_unlink_64 : decode cJ5_unlink 64 = .ok (.aload_n 1, 1) := dk_43 (dk_at dksJ5_unlink_2 17 rfl rfl)
theorem dJ5_unlink_65 : decode cJ5_unlink 65 = .ok (.aconst_null, 1) := dk_1 (dk_at dksJ5_unlink_2 18 rfl rfl)
theorem dJ5_unlink_66 : decode cJ5_unlink 66 = .ok (.putfield 39, 3) := dk_181 0 39 (dk_at dksJ5_unlink_2 19 rfl rfl)
theorem dJ5_unlink_69 : decode cJ5_unlink 69 = .ok (.aload_n 0, 1) := dk_42 (dk_at dksJ5_unlink_2 22 rfl rfl)
theorem dJ5_unlink_70 : decode cJ5_unlink 70 = .ok (.dup, 1) := dk_89 (dk_at dksJ5_unlink_2 23 rfl rfl)
theorem dJ5_unlink_71 : decode cJ5_unlink 71 = .ok (.getfield 7, 3) := dk_180 0 7 (dk_at dksJ5_unlink_3 0 rfl rfl)
theorem dJ5_unlink_74 : decode cJ5_unlink 74 = .ok (.iconst 1, 1) := dk_4 (dk_at dksJ5_unlink_3 3 rfl rfl)
theorem dJ5_unlink_75 : decode cJ5_unlink 75 = .ok (.isub, 1) := dk_100 (dk_at dksJ5_unlink_3 4 rfl rfl)
theorem dJ5_unlink_76 : decode cJ5_unlink 76 = .ok (.putfield 7, 3) := dk_181 0 7 (dk_at dksJ5_unlink_3 5 rfl rfl)
theorem dJ5_unlink_79 : decode cJ5_unlink 79 = .ok (.aload_n 0, 1) := dk_42 (dk_at dksJ5_unlink_3 8 rfl rfl)
theorem dJ5_unlink_80 : decode cJ5_unlink 80 = .ok (.dup, 1) := dk_89 (dk_at dksJ5_unlink_3 9 rfl rfl)
theorem dJ5_unlink_81 : decode cJ5_unlink 81 = .ok (.getfield 33, 3) := dk_180 0 33 (dk_at dksJ5_unlink_3 10 rfl rfl)
theorem dJ5_unlink_84 : decode cJ5_unlink 84 = .ok (.iconst 1, 1) := dk_4 (dk_at dksJ5_unlink_3 13 rfl rfl)
theorem dJ5_unlink_85 : decode cJ5_unlink 85 = .ok (.iadd, 1) := dk_96 (dk_at dksJ5_unlink_3 14 rfl rfl)
theorem dJ5_unlink_86 : decode cJ5_unlink 86 = .ok (.putfield 33, 3) := dk_181 0 33 (dk_at dksJ5_unlink_3 15 rfl rfl)
theorem dJ5_unlink_89 : decode cJ5_unlink 89 = .ok (.aload_n 2, 1) := dk_44 (dk_at dksJ5_unlink_3 18 rfl rfl)
theorem dJ5_unlink_90 : decode cJ5_unlink 90 = .ok (.areturn, 1) := dk_176 (dk_at dksJ5_unlink_3 19 rfl rfl)
abbrev cJ5_set : ByteArray := prog_48_method_23_code
def yJ5_set : MethodName := ⟨RJ5, "set", "(ILjava/lang/Object;)Ljava/lang/Object;"⟩
def dkwJ5_set_1 : List UInt8 := [176]
abbrev dktJ5_set_1 : List UInt8 := dkwJ5_set_1 ++ []
def dkwJ5_set_0 : List UInt8 := [42, 27, 182, 0, 90, 42, 27, 182, 0, 86, 78, 45, 180, 0, 39, 58, 4, 45, 44, 181, 0, 39, 25, 4]
abbrev dktJ5_set_0 : List UInt8 := dkwJ5_set_0 ++ dktJ5_set_1
theorem dksJ5_set_0 : cJ5_set.data.toList.drop 0 = dktJ5_set_0 := by decide +kernel
theorem dksJ5_set_1 : cJ5_set.data.toList.drop 24 = dktJ5_set_1 := dk_seg dksJ5_set_0 24 rfl rfl
theorem dJ5_set_0 : decode cJ5_set 0 = .ok (.aload_n 0, 1) := dk_42 (dk_at dksJ5_set_0 0 rfl rfl)
theorem dJ5_set_1 : decode cJ5_set 1 = .ok (.iload_n 1, 1) := dk_27 (dk_at dksJ5_set_0 1 rfl rfl)
theorem dJ5_set_2 : decode cJ5_set 2 = .ok (.invokevirtual 90, 3) := dk_182 0 90 (dk_at dksJ5_set_0 2 rfl rfl)
theorem dJ5_set_5 : decode cJ5_set 5 = .ok (.aload_n 0, 1) := dk_42 (dk_at dksJ5_set_0 5 rfl rfl)
theorem dJ5_set_6 : decode cJ5_set 6 = .ok (.iload_n 1, 1) := dk_27 (dk_at dksJ5_set_0 6 rfl rfl)
theorem dJ5_set_7 : decode cJ5_set 7 = .ok (.invokevirtual 86, 3) := dk_182 0 86 (dk_at dksJ5_set_0 7 rfl rfl)
theorem dJ5_set_10 : decode cJ5_set 10 = .ok (.astore_n 3, 1) := dk_78 (dk_at dksJ5_set_0 10 rfl rfl)
theorem dJ5_set_11 : decode cJ5_set 11 = .ok (.aload_n 3, 1) := dk_45 (dk_at dksJ5_set_0 11 rfl rfl)
theorem dJ5_set_12 : decode cJ5_set 12 = .ok (.getfield 39, 3) := dk_180 0 39 (dk_at dksJ5_set_0 12 rfl rfl)
theorem dJ5_set_15 : decode cJ5_set 15 = .ok (.astore 4, 2) := dk_58 4 (dk_at dksJ5_set_0 15 rfl rfl)
theorem dJ5_set_17 : decode cJ5_set 17 = .ok (.aload_n 3, 1) := dk_45 (dk_at dksJ5_set_0 17 rfl rfl)
theorem dJ5_set_18 : decode cJ5_set 18 = .ok (.aload_n 2, 1) := dk_44 (dk_at dksJ5_set_0 18 rfl rfl)
theorem dJ5_set_19 : decode cJ5_set 19 = .ok (.putfield 39, 3) := dk_181 0 39 (dk_at dksJ5_set_0 19 rfl rfl)
theorem dJ5_set_22 : decode cJ5_set 22 = .ok (.aload 4, 2) := dk_25 4 (dk_at dksJ5_set_0 22 rfl rfl)
theorem dJ5_set_24 : decode cJ5_set 24 = .ok (.areturn, 1) := dk_176 (dk_at dksJ5_set_1 0 rfl rfl)
theorem q125 : (Jvm.Cond.initialized "java/util/LinkedList") ∈ lw_all := lw_g (lw_at lw_m1 8 rfl) rfl
theorem q226 : (Jvm.Cond.instantiable "java/util/LinkedList" (4 : Nat)) ∈ lw_all := lw_g (lw_at lw_m1 109 rfl) rfl
theorem q228 : (Jvm.Cond.instanceMethod ({ cls := "java/util/LinkedList", name := "<init>", desc := "()V" } : Jvm.MethodName)) ∈ lw_all := lw_g (lw_at lw_m1 111 rfl) rfl
theorem q229 : (Jvm.Cond.code ({ cls := "java/util/LinkedList", name := "<init>", desc := "()V" } : Jvm.MethodName) prog_48_method_1_code (1 : Nat) (Option.none : Option Jvm.ClassFile.FieldType)) ∈ lw_all := lw_g (lw_at lw_m1 112 rfl) rfl
theorem q230 : (Jvm.Cond.methodLink "java/util/LinkedList" (1 : Nat) ({ cls := "java/util/AbstractSequentialList", name := "<init>", desc := "()V" } : Jvm.MethodName)) ∈ lw_all := lw_g (lw_at lw_m1 113 rfl) rfl
theorem q240 : (Jvm.Cond.fieldLink "java/util/LinkedList" (7 : Nat) "java/util/LinkedList" "size" "I") ∈ lw_all := lw_g (lw_at lw_m1 123 rfl) rfl
theorem q242 : (Jvm.Cond.fieldLink "java/util/LinkedList" (18 : Nat) "java/util/LinkedList" "first" "Ljava/util/LinkedList$Node;") ∈ lw_all := lw_g (lw_at lw_m1 125 rfl) rfl
theorem q243 : (Jvm.Cond.fieldLink "java/util/LinkedList" (27 : Nat) "java/util/LinkedList" "last" "Ljava/util/LinkedList$Node;") ∈ lw_all := lw_g (lw_at lw_m1 126 rfl) rfl
theorem q247 : (Jvm.Cond.sameField "java/util/LinkedList" "java/util/AbstractList" "modCount" "I") ∈ lw_all := lw_g (lw_at lw_m1 130 rfl) rfl
theorem q249 : (Jvm.Cond.fieldLink "java/util/LinkedList" (33 : Nat) "java/util/LinkedList" "modCount" "I") ∈ lw_all := lw_g (lw_at lw_m1 132 rfl) rfl
theorem q251 : (Jvm.Cond.lays "java/util/LinkedList" "java/util/LinkedList" "size" "I") ∈ lw_all := lw_g (lw_at lw_m1 134 rfl) rfl
theorem q252 : (Jvm.Cond.soleField "java/util/LinkedList" "size") ∈ lw_all := lw_g (lw_at lw_m1 135 rfl) rfl
theorem q253 : (Jvm.Cond.lays "java/util/LinkedList" "java/util/LinkedList" "first" "Ljava/util/LinkedList$Node;") ∈ lw_all := lw_g (lw_at lw_m1 136 rfl) rfl
theorem q254 : (Jvm.Cond.soleField "java/util/LinkedList" "first") ∈ lw_all := lw_g (lw_at lw_m1 137 rfl) rfl
theorem q255 : (Jvm.Cond.lays "java/util/LinkedList" "java/util/LinkedList" "last" "Ljava/util/LinkedList$Node;") ∈ lw_all := lw_g (lw_at lw_m1 138 rfl) rfl
theorem q256 : (Jvm.Cond.soleField "java/util/LinkedList" "last") ∈ lw_all := lw_g (lw_at lw_m1 139 rfl) rfl
theorem q257 : (Jvm.Cond.lays "java/util/LinkedList" "java/util/AbstractList" "modCount" "I") ∈ lw_all := lw_g (lw_at lw_m1 140 rfl) rfl
theorem q259 : (Jvm.Cond.superclass "java/util/LinkedList" "java/util/AbstractSequentialList") ∈ lw_all := lw_g (lw_at lw_m1 142 rfl) rfl
theorem q737 : (Jvm.Cond.instanceMethod ({ cls := "java/util/LinkedList", name := "size", desc := "()I" } : Jvm.MethodName)) ∈ lw_all := lw_g (lw_at lw_m3 140 rfl) rfl
theorem q738 : (Jvm.Cond.selects "java/util/LinkedList" ({ cls := "java/util/LinkedList", name := "size", desc := "()I" } : Jvm.MethodName) ({ cls := "java/util/LinkedList", name := "size", desc := "()I" } : Jvm.MethodName)) ∈ lw_all := lw_g (lw_at lw_m3 141 rfl) rfl
theorem q739 : (Jvm.Cond.code ({ cls := "java/util/LinkedList", name := "size", desc := "()I" } : Jvm.MethodName) prog_48_method_16_code (1 : Nat) (Option.some Jvm.ClassFile.FieldType.int)) ∈ lw_all := lw_g (lw_at lw_m3 142 rfl) rfl
theorem q741 : (Jvm.Cond.instanceMethod ({ cls := "java/util/LinkedList", name := "addLast", desc := "(Ljava/lang/Object;)V" } : Jvm.MethodName)) ∈ lw_all := lw_g (lw_at lw_m3 144 rfl) rfl
theorem q742 : (Jvm.Cond.selects "java/util/LinkedList" ({ cls := "java/util/LinkedList", name := "addLast", desc := "(Ljava/lang/Object;)V" } : Jvm.MethodName) ({ cls := "java/util/LinkedList", name := "addLast", desc := "(Ljava/lang/Object;)V" } : Jvm.MethodName)) ∈ lw_all := lw_g (lw_at lw_m3 145 rfl) rfl
theorem q743 : (Jvm.Cond.code ({ cls := "java/util/LinkedList", name := "addLast", desc := "(Ljava/lang/Object;)V" } : Jvm.MethodName) prog_48_method_14_code (2 : Nat) (Option.none : Option Jvm.ClassFile.FieldType)) ∈ lw_all := lw_g (lw_at lw_m3 146 rfl) rfl
theorem q744 : (Jvm.Cond.methodLink "java/util/LinkedList" (57 : Nat) ({ cls := "java/util/LinkedList", name := "linkLast", desc := "(Ljava/lang/Object;)V" } : Jvm.MethodName)) ∈ lw_all := lw_g (lw_at lw_m3 147 rfl) rfl
theorem q745 : (Jvm.Cond.instanceMethod ({ cls := "java/util/LinkedList", name := "linkLast", desc := "(Ljava/lang/Object;)V" } : Jvm.MethodName)) ∈ lw_all := lw_g (lw_at lw_m3 148 rfl) rfl
theorem q746 : (Jvm.Cond.selects "java/util/LinkedList" ({ cls := "java/util/LinkedList", name := "linkLast", desc := "(Ljava/lang/Object;)V" } : Jvm.MethodName) ({ cls := "java/util/LinkedList", name := "linkLast", desc := "(Ljava/lang/Object;)V" } : Jvm.MethodName)) ∈ lw_all := lw_g (lw_at lw_m3 149 rfl) rfl
theorem q747 : (Jvm.Cond.code ({ cls := "java/util/LinkedList", name := "linkLast", desc := "(Ljava/lang/Object;)V" } : Jvm.MethodName) prog_48_method_4_code (4 : Nat) (Option.none : Option Jvm.ClassFile.FieldType)) ∈ lw_all := lw_g (lw_at lw_m3 150 rfl) rfl
theorem q748 : (Jvm.Cond.classLink "java/util/LinkedList" (22 : Nat) "java/util/LinkedList$Node") ∈ lw_all := lw_g (lw_at lw_m3 151 rfl) rfl
theorem q750 : (Jvm.Cond.methodLink "java/util/LinkedList" (24 : Nat) ({ cls := "java/util/LinkedList$Node", name := "<init>", desc := "(Ljava/util/LinkedList$Node;Ljava/lang/Object;Ljava/util/LinkedList$Node;)V" } : Jvm.MethodName)) ∈ lw_all := lw_g (lw_at lw_m3 153 rfl) rfl
theorem q756 : (Jvm.Cond.fieldLink "java/util/LinkedList" (39 : Nat) "java/util/LinkedList$Node" "item" "Ljava/lang/Object;") ∈ lw_all := lw_g (lw_at lw_m3 159 rfl) rfl
theorem q759 : (Jvm.Cond.fieldLink "java/util/LinkedList" (36 : Nat) "java/util/LinkedList$Node" "next" "Ljava/util/LinkedList$Node;") ∈ lw_all := lw_g (lw_at lw_m3 162 rfl) rfl
theorem q762 : (Jvm.Cond.fieldLink "java/util/LinkedList" (30 : Nat) "java/util/LinkedList$Node" "prev" "Ljava/util/LinkedList$Node;") ∈ lw_all := lw_g (lw_at lw_m3 165 rfl) rfl
theorem q779 : (Jvm.Cond.instanceMethod ({ cls := "java/util/LinkedList", name := "get", desc := "(I)Ljava/lang/Object;" } : Jvm.MethodName)) ∈ lw_all := lw_g (lw_at lw_m3 182 rfl) rfl
theorem q780 : (Jvm.Cond.selects "java/util/LinkedList" ({ cls := "java/util/LinkedList", name := "get", desc := "(I)Ljava/lang/Object;" } : Jvm.MethodName) ({ cls := "java/util/LinkedList", name := "get", desc := "(I)Ljava/lang/Object;" } : Jvm.MethodName)) ∈ lw_all := lw_g (lw_at lw_m3 183 rfl) rfl
theorem q781 : (Jvm.Cond.code ({ cls := "java/util/LinkedList", name := "get", desc := "(I)Ljava/lang/Object;" } : Jvm.MethodName) prog_48_method_22_code (2 : Nat) (Option.some (Jvm.ClassFile.FieldType.object "java/lang/Object"))) ∈ lw_all := lw_g (lw_at lw_m3 184 rfl) rfl
theorem q782 : (Jvm.Cond.methodLink "java/util/LinkedList" (90 : Nat) ({ cls := "java/util/LinkedList", name := "checkElementIndex", desc := "(I)V" } : Jvm.MethodName)) ∈ lw_all := lw_g (lw_at lw_m3 185 rfl) rfl
theorem q783 : (Jvm.Cond.privateMethod ({ cls := "java/util/LinkedList", name := "checkElementIndex", desc := "(I)V" } : Jvm.MethodName)) ∈ lw_tbl := lw_at lw_m3 186 rfl
theorem q784 : (Jvm.Cond.instanceMethod ({ cls := "java/util/LinkedList", name := "checkElementIndex", desc := "(I)V" } : Jvm.MethodName)) ∈ lw_all := lw_g (lw_at lw_m3 187 rfl) rfl
theorem q785 : (Jvm.Cond.code ({ cls := "java/util/LinkedList", name := "checkElementIndex", desc := "(I)V" } : Jvm.MethodName) prog_48_method_29_code (2 : Nat) (Option.none : Option Jvm.ClassFile.FieldType)) ∈ lw_all := lw_g (lw_at lw_m3 188 rfl) rfl
theorem q786 : (Jvm.Cond.methodLink "java/util/LinkedList" (115 : Nat) ({ cls := "java/util/LinkedList", name := "isElementIndex", desc := "(I)Z" } : Jvm.MethodName)) ∈ lw_all := lw_g (lw_at lw_m3 189 rfl) rfl
theorem q787 : (Jvm.Cond.privateMethod ({ cls := "java/util/LinkedList", name := "isElementIndex", desc := "(I)Z" } : Jvm.MethodName)) ∈ lw_tbl := lw_at lw_m3 190 rfl
theorem q788 : (Jvm.Cond.instanceMethod ({ cls := "java/util/LinkedList", name := "isElementIndex", desc := "(I)Z" } : Jvm.MethodName)) ∈ lw_all := lw_g (lw_at lw_m3 191 rfl) rfl
theorem q789 : (Jvm.Cond.code ({ cls := "java/util/LinkedList", name := "isElementIndex", desc := "(I)Z" } : Jvm.MethodName) prog_48_method_26_code (2 : Nat) (Option.some Jvm.ClassFile.FieldType.boolean)) ∈ lw_all := lw_g (lw_at lw_m3 192 rfl) rfl
theorem q790 : (Jvm.Cond.methodLink "java/util/LinkedList" (86 : Nat) ({ cls := "java/util/LinkedList", name := "node", desc := "(I)Ljava/util/LinkedList$Node;" } : Jvm.MethodName)) ∈ lw_all := lw_g (lw_at lw_m3 193 rfl) rfl
theorem q791 : (Jvm.Cond.instanceMethod ({ cls := "java/util/LinkedList", name := "node", desc := "(I)Ljava/util/LinkedList$Node;" } : Jvm.MethodName)) ∈ lw_all := lw_g (lw_at lw_m3 194 rfl) rfl
theorem q792 : (Jvm.Cond.selects "java/util/LinkedList" ({ cls := "java/util/LinkedList", name := "node", desc := "(I)Ljava/util/LinkedList$Node;" } : Jvm.MethodName) ({ cls := "java/util/LinkedList", name := "node", desc := "(I)Ljava/util/LinkedList$Node;" } : Jvm.MethodName)) ∈ lw_all := lw_g (lw_at lw_m3 195 rfl) rfl
theorem q793 : (Jvm.Cond.code ({ cls := "java/util/LinkedList", name := "node", desc := "(I)Ljava/util/LinkedList$Node;" } : Jvm.MethodName) prog_48_method_31_code (4 : Nat) (Option.some (Jvm.ClassFile.FieldType.object "java/util/LinkedList$Node"))) ∈ lw_all := lw_g (lw_at lw_m3 196 rfl) rfl
theorem q1035 : (Jvm.Cond.sameMethod "java/util/LinkedList" "java/util/AbstractCollection" "isEmpty" "()Z") ∈ lw_all := lw_g (lw_at lw_m4 198 rfl) rfl
theorem q1037 : (Jvm.Cond.selects "java/util/LinkedList" ({ cls := "java/util/LinkedList", name := "isEmpty", desc := "()Z" } : Jvm.MethodName) ({ cls := "java/util/AbstractCollection", name := "isEmpty", desc := "()Z" } : Jvm.MethodName)) ∈ lw_all := lw_g (lw_at lw_m4 200 rfl) rfl
theorem q1049 : (Jvm.Cond.selects "java/util/LinkedList" ({ cls := "java/util/AbstractCollection", name := "size", desc := "()I" } : Jvm.MethodName) ({ cls := "java/util/LinkedList", name := "size", desc := "()I" } : Jvm.MethodName)) ∈ lw_all := lw_g (lw_at lw_m4 212 rfl) rfl
theorem q1051 : (Jvm.Cond.sameMethod "java/util/LinkedList" "java/util/AbstractSequentialList" "iterator" "()Ljava/util/Iterator;") ∈ lw_all := lw_g (lw_at lw_m4 214 rfl) rfl
theorem q1053 : (Jvm.Cond.selects "java/util/LinkedList" ({ cls := "java/util/LinkedList", name := "iterator", desc := "()Ljava/util/Iterator;" } : Jvm.MethodName) ({ cls := "java/util/AbstractSequentialList", name := "iterator", desc := "()Ljava/util/Iterator;" } : Jvm.MethodName)) ∈ lw_all := lw_g (lw_at lw_m4 216 rfl) rfl
theorem q1059 : (Jvm.Cond.selects "java/util/LinkedList" ({ cls := "java/util/AbstractSequentialList", name := "listIterator", desc := "()Ljava/util/ListIterator;" } : Jvm.MethodName) ({ cls := "java/util/AbstractList", name := "listIterator", desc := "()Ljava/util/ListIterator;" } : Jvm.MethodName)) ∈ lw_all := lw_g (lw_at lw_m4 222 rfl) rfl
theorem q1065 : (Jvm.Cond.selects "java/util/LinkedList" ({ cls := "java/util/AbstractList", name := "listIterator", desc := "(I)Ljava/util/ListIterator;" } : Jvm.MethodName) ({ cls := "java/util/LinkedList", name := "listIterator", desc := "(I)Ljava/util/ListIterator;" } : Jvm.MethodName)) ∈ lw_all := lw_g (lw_at lw_m4 228 rfl) rfl
theorem q1066 : (Jvm.Cond.instanceMethod ({ cls := "java/util/LinkedList", name := "listIterator", desc := "(I)Ljava/util/ListIterator;" } : Jvm.MethodName)) ∈ lw_all := lw_g (lw_at lw_m4 229 rfl) rfl
theorem q1067 : (Jvm.Cond.code ({ cls := "java/util/LinkedList", name := "listIterator", desc := "(I)Ljava/util/ListIterator;" } : Jvm.MethodName) prog_48_method_49_code (2 : Nat) (Option.some (Jvm.ClassFile.FieldType.object "java/util/ListIterator"))) ∈ lw_all := lw_g (lw_at lw_m4 230 rfl) rfl
theorem q1068 : (Jvm.Cond.methodLink "java/util/LinkedList" (76 : Nat) ({ cls := "java/util/LinkedList", name := "checkPositionIndex", desc := "(I)V" } : Jvm.MethodName)) ∈ lw_all := lw_g (lw_at lw_m4 231 rfl) rfl
theorem q1069 : (Jvm.Cond.privateMethod ({ cls := "java/util/LinkedList", name := "checkPositionIndex", desc := "(I)V" } : Jvm.MethodName)) ∈ lw_tbl := lw_at lw_m4 232 rfl
theorem q1070 : (Jvm.Cond.instanceMethod ({ cls := "java/util/LinkedList", name := "checkPositionIndex", desc := "(I)V" } : Jvm.MethodName)) ∈ lw_all := lw_g (lw_at lw_m4 233 rfl) rfl
theorem q1071 : (Jvm.Cond.code ({ cls := "java/util/LinkedList", name := "checkPositionIndex", desc := "(I)V" } : Jvm.MethodName) prog_48_method_30_code (2 : Nat) (Option.none : Option Jvm.ClassFile.FieldType)) ∈ lw_all := lw_g (lw_at lw_m4 234 rfl) rfl
theorem q1072 : (Jvm.Cond.methodLink "java/util/LinkedList" (128 : Nat) ({ cls := "java/util/LinkedList", name := "isPositionIndex", desc := "(I)Z" } : Jvm.MethodName)) ∈ lw_all := lw_g (lw_at lw_m4 235 rfl) rfl
theorem q1073 : (Jvm.Cond.privateMethod ({ cls := "java/util/LinkedList", name := "isPositionIndex", desc := "(I)Z" } : Jvm.MethodName)) ∈ lw_tbl := lw_at lw_m4 236 rfl
theorem q1074 : (Jvm.Cond.instanceMethod ({ cls := "java/util/LinkedList", name := "isPositionIndex", desc := "(I)Z" } : Jvm.MethodName)) ∈ lw_all := lw_g (lw_at lw_m4 237 rfl) rfl
theorem q1075 : (Jvm.Cond.code ({ cls := "java/util/LinkedList", name := "isPositionIndex", desc := "(I)Z" } : Jvm.MethodName) prog_48_method_27_code (2 : Nat) (Option.some Jvm.ClassFile.FieldType.boolean)) ∈ lw_all := lw_g (lw_at lw_m4 238 rfl) rfl
theorem q1076 : (Jvm.Cond.classLink "java/util/LinkedList" (150 : Nat) "java/util/LinkedList$ListItr") ∈ lw_all := lw_g (lw_at lw_m4 239 rfl) rfl
theorem q1078 : (Jvm.Cond.methodLink "java/util/LinkedList" (152 : Nat) ({ cls := "java/util/LinkedList$ListItr", name := "<init>", desc := "(Ljava/util/LinkedList;I)V" } : Jvm.MethodName)) ∈ lw_all := lw_g (lw_at lw_m5 1 rfl) rfl
theorem q1112 : (Jvm.Cond.selects "java/util/LinkedList" ({ cls := "java/util/AbstractList", name := "size", desc := "()I" } : Jvm.MethodName) ({ cls := "java/util/LinkedList", name := "size", desc := "()I" } : Jvm.MethodName)) ∈ lw_all := lw_g (lw_at lw_m5 35 rfl) rfl
theorem q1136 : (Jvm.Cond.selects "java/util/LinkedList" ({ cls := "java/util/AbstractList", name := "get", desc := "(I)Ljava/lang/Object;" } : Jvm.MethodName) ({ cls := "java/util/LinkedList", name := "get", desc := "(I)Ljava/lang/Object;" } : Jvm.MethodName)) ∈ lw_all := lw_g (lw_at lw_m5 59 rfl) rfl
theorem q1184 : (Jvm.Cond.selects "java/util/LinkedList" ({ cls := "java/lang/Object", name := "getClass", desc := "()Ljava/lang/Class;" } : Jvm.MethodName) ({ cls := "java/lang/Object", name := "getClass", desc := "()Ljava/lang/Class;" } : Jvm.MethodName)) ∈ lw_all := lw_g (lw_at lw_m5 107 rfl) rfl
theorem q1427 : (Jvm.Cond.selects "java/util/LinkedList" ({ cls := "java/util/AbstractList", name := "remove", desc := "(I)Ljava/lang/Object;" } : Jvm.MethodName) ({ cls := "java/util/LinkedList", name := "remove", desc := "(I)Ljava/lang/Object;" } : Jvm.MethodName)) ∈ lw_all := lw_g (lw_at lw_m6 110 rfl) rfl
theorem q1428 : (Jvm.Cond.instanceMethod ({ cls := "java/util/LinkedList", name := "remove", desc := "(I)Ljava/lang/Object;" } : Jvm.MethodName)) ∈ lw_all := lw_g (lw_at lw_m6 111 rfl) rfl
theorem q1429 : (Jvm.Cond.code ({ cls := "java/util/LinkedList", name := "remove", desc := "(I)Ljava/lang/Object;" } : Jvm.MethodName) prog_48_method_25_code (2 : Nat) (Option.some (Jvm.ClassFile.FieldType.object "java/lang/Object"))) ∈ lw_all := lw_g (lw_at lw_m6 112 rfl) rfl
theorem q1430 : (Jvm.Cond.methodLink "java/util/LinkedList" (64 : Nat) ({ cls := "java/util/LinkedList", name := "unlink", desc := "(Ljava/util/LinkedList$Node;)Ljava/lang/Object;" } : Jvm.MethodName)) ∈ lw_all := lw_g (lw_at lw_m6 113 rfl) rfl
theorem q1431 : (Jvm.Cond.instanceMethod ({ cls := "java/util/LinkedList", name := "unlink", desc := "(Ljava/util/LinkedList$Node;)Ljava/lang/Object;" } : Jvm.MethodName)) ∈ lw_all := lw_g (lw_at lw_m6 114 rfl) rfl
theorem q1432 : (Jvm.Cond.selects "java/util/LinkedList" ({ cls := "java/util/LinkedList", name := "unlink", desc := "(Ljava/util/LinkedList$Node;)Ljava/lang/Object;" } : Jvm.MethodName) ({ cls := "java/util/LinkedList", name := "unlink", desc := "(Ljava/util/LinkedList$Node;)Ljava/lang/Object;" } : Jvm.MethodName)) ∈ lw_all := lw_g (lw_at lw_m6 115 rfl) rfl
theorem q1433 : (Jvm.Cond.code ({ cls := "java/util/LinkedList", name := "unlink", desc := "(Ljava/util/LinkedList$Node;)Ljava/lang/Object;" } : Jvm.MethodName) prog_48_method_8_code (5 : Nat) (Option.some (Jvm.ClassFile.FieldType.object "java/lang/Object"))) ∈ lw_all := lw_g (lw_at lw_m6 116 rfl) rfl
theorem q1461 : (Jvm.Cond.castable "java/util/LinkedList" "java/util/List") ∈ lw_tbl := lw_at lw_m6 144 rfl
theorem q1462 : (Jvm.Cond.selects "java/util/LinkedList" ({ cls := "java/util/List", name := "size", desc := "()I" } : Jvm.MethodName) ({ cls := "java/util/LinkedList", name := "size", desc := "()I" } : Jvm.MethodName)) ∈ lw_all := lw_g (lw_at lw_m6 145 rfl) rfl
theorem q1463 : (Jvm.Cond.unhidden "java/util/LinkedList" "size" "()I") ∈ lw_tbl := lw_at lw_m6 146 rfl
theorem q1464 : (Jvm.Cond.publicMethod ({ cls := "java/util/LinkedList", name := "size", desc := "()I" } : Jvm.MethodName)) ∈ lw_tbl := lw_at lw_m6 147 rfl
theorem q1473 : (Jvm.Cond.selects "java/util/LinkedList" ({ cls := "java/util/List", name := "get", desc := "(I)Ljava/lang/Object;" } : Jvm.MethodName) ({ cls := "java/util/LinkedList", name := "get", desc := "(I)Ljava/lang/Object;" } : Jvm.MethodName)) ∈ lw_all := lw_g (lw_at lw_m6 156 rfl) rfl
theorem q1474 : (Jvm.Cond.unhidden "java/util/LinkedList" "get" "(I)Ljava/lang/Object;") ∈ lw_tbl := lw_at lw_m6 157 rfl
theorem q1475 : (Jvm.Cond.publicMethod ({ cls := "java/util/LinkedList", name := "get", desc := "(I)Ljava/lang/Object;" } : Jvm.MethodName)) ∈ lw_tbl := lw_at lw_m6 158 rfl
theorem q1480 : (Jvm.Cond.selects "java/util/LinkedList" ({ cls := "java/util/List", name := "set", desc := "(ILjava/lang/Object;)Ljava/lang/Object;" } : Jvm.MethodName) ({ cls := "java/util/LinkedList", name := "set", desc := "(ILjava/lang/Object;)Ljava/lang/Object;" } : Jvm.MethodName)) ∈ lw_all := lw_g (lw_at lw_m6 163 rfl) rfl
theorem q1481 : (Jvm.Cond.unhidden "java/util/LinkedList" "set" "(ILjava/lang/Object;)Ljava/lang/Object;") ∈ lw_tbl := lw_at lw_m6 164 rfl
theorem q1482 : (Jvm.Cond.instanceMethod ({ cls := "java/util/LinkedList", name := "set", desc := "(ILjava/lang/Object;)Ljava/lang/Object;" } : Jvm.MethodName)) ∈ lw_all := lw_g (lw_at lw_m6 165 rfl) rfl
theorem q1483 : (Jvm.Cond.publicMethod ({ cls := "java/util/LinkedList", name := "set", desc := "(ILjava/lang/Object;)Ljava/lang/Object;" } : Jvm.MethodName)) ∈ lw_tbl := lw_at lw_m6 166 rfl
theorem q1484 : (Jvm.Cond.code ({ cls := "java/util/LinkedList", name := "set", desc := "(ILjava/lang/Object;)Ljava/lang/Object;" } : Jvm.MethodName) prog_48_method_23_code (5 : Nat) (Option.some (Jvm.ClassFile.FieldType.object "java/lang/Object"))) ∈ lw_all := lw_g (lw_at lw_m6 167 rfl) rfl
theorem q1489 : (Jvm.Cond.selects "java/util/LinkedList" ({ cls := "java/util/List", name := "listIterator", desc := "()Ljava/util/ListIterator;" } : Jvm.MethodName) ({ cls := "java/util/AbstractList", name := "listIterator", desc := "()Ljava/util/ListIterator;" } : Jvm.MethodName)) ∈ lw_all := lw_g (lw_at lw_m6 172 rfl) rfl
theorem q1490 : (Jvm.Cond.unhidden "java/util/LinkedList" "listIterator" "()Ljava/util/ListIterator;") ∈ lw_tbl := lw_at lw_m6 173 rfl
theorem q1496 : (Jvm.Cond.selects "java/util/LinkedList" ({ cls := "java/util/List", name := "listIterator", desc := "(I)Ljava/util/ListIterator;" } : Jvm.MethodName) ({ cls := "java/util/LinkedList", name := "listIterator", desc := "(I)Ljava/util/ListIterator;" } : Jvm.MethodName)) ∈ lw_all := lw_g (lw_at lw_m6 179 rfl) rfl
theorem q1497 : (Jvm.Cond.unhidden "java/util/LinkedList" "listIterator" "(I)Ljava/util/ListIterator;") ∈ lw_tbl := lw_at lw_m6 180 rfl
theorem q1498 : (Jvm.Cond.publicMethod ({ cls := "java/util/LinkedList", name := "listIterator", desc := "(I)Ljava/util/ListIterator;" } : Jvm.MethodName)) ∈ lw_tbl := lw_at lw_m6 181 rfl
theorem q1546 : (Jvm.Cond.selects "java/util/LinkedList" ({ cls := "java/util/AbstractList", name := "set", desc := "(ILjava/lang/Object;)Ljava/lang/Object;" } : Jvm.MethodName) ({ cls := "java/util/LinkedList", name := "set", desc := "(ILjava/lang/Object;)Ljava/lang/Object;" } : Jvm.MethodName)) ∈ lw_all := lw_g (lw_at lw_m6 229 rfl) rfl
theorem q2349 : (Jvm.Cond.castable "java/util/LinkedList" "java/lang/Object") ∈ lw_tbl := lw_at lw_m10 72 rfl
theorem in_J5 : ∀ w ∈ wsJ50, w ∈ lw_all := lw_in wsJ50 [257, 251, 253, 255] (by decide +kernel) (by decide +kernel)
/-! java/util/BitSet -/
set_option maxRecDepth 100000
def RJ6 : String := "java/util/BitSet"
def TJ6 : u_T := fun k => match k with
  | 0 => ("java/util/BitSet", "words", "[J", false)
  | 1 => ("java/util/BitSet", "wordsInUse", "I", false)
  | _ => ("java/util/BitSet", "sizeIsSticky", "Z", false)
def tyJ6 : Nat → FieldType := fun k => match k with
  | 0 => .array .long
  | 1 => .int
  | _ => .boolean
abbrev wsJ60 : List Cond := u_ws RJ6 TJ6 3
theorem nmJ6 : ∀ a, a < 3 → ∀ b, b < 3 → a ≠ b → (TJ6 a).2.1 ≠ (TJ6 b).2.1 := by decide +kernel
theorem tyJ6_ok : ∀ k, k < 3 → parseFieldDescriptor (TJ6 k).2.2.1 = some (tyJ6 k) := by decide +kernel
abbrev cJ6_init : ByteArray := prog_42_method_5_code
def yJ6_init : MethodName := ⟨RJ6, "<init>", "(I)V"⟩
def dkwJ6_init_2 : List UInt8 := [27, 182, 0, 27, 42, 4, 181, 0, 24, 177]
abbrev dktJ6_init_2 : List UInt8 := dkwJ6_init_2 ++ []
def dkwJ6_init_1 : List UInt8 := [187, 0, 33, 89, 183, 0, 35, 18, 36, 182, 0, 38, 27, 182, 0, 42, 182, 0, 45, 183, 0, 49, 191, 42]
abbrev dktJ6_init_1 : List UInt8 := dkwJ6_init_1 ++ dktJ6_init_2
def dkwJ6_init_0 : List UInt8 := [42, 183, 0, 21, 42, 3, 181, 0, 7, 42, 3, 181, 0, 24, 27, 156, 0, 30, 187, 0, 31, 89]
abbrev dktJ6_init_0 : List UInt8 := dkwJ6_init_0 ++ dktJ6_init_1
theorem dksJ6_init_0 : cJ6_init.data.toList.drop 0 = dktJ6_init_0 := by decide +kernel
theorem dksJ6_init_1 : cJ6_init.data.toList.drop 22 = dktJ6_init_1 := dk_seg dksJ6_init_0 22 rfl rfl
theorem dksJ6_init_2 : cJ6_init.data.toList.drop 46 = dktJ6_init_2 := dk_seg dksJ6_init_1 24 rfl rfl
theorem dJ6_init_0 : decode cJ6_init 0 = .ok (.aload_n 0, 1) := dk_42 (dk_at dksJ6_init_0 0 rfl rfl)
theorem dJ6_init_1 : decode cJ6_init 1 = .ok (.invokespecial 21, 3) := dk_183 0 21 (dk_at dksJ6_init_0 1 rfl rfl)
theorem dJ6_init_4 : decode cJ6_init 4 = .ok (.aload_n 0, 1) := dk_42 (dk_at dksJ6_init_0 4 rfl rfl)
theorem dJ6_init_5 : decode cJ6_init 5 = .ok (.iconst 0, 1) := dk_3 (dk_at dksJ6_init_0 5 rfl rfl)
theorem dJ6_init_6 : decode cJ6_init 6 = .ok (.putfield 7, 3) := dk_181 0 7 (dk_at dksJ6_init_0 6 rfl rfl)
theorem dJ6_init_9 : decode cJ6_init 9 = .ok (.aload_n 0, 1) := dk_42 (dk_at dksJ6_init_0 9 rfl rfl)
theorem dJ6_init_10 : decode cJ6_init 10 = .ok (.iconst 0, 1) := dk_3 (dk_at dksJ6_init_0 10 rfl rfl)
theorem dJ6_init_11 : decode cJ6_init 11 = .ok (.putfield 24, 3) := dk_181 0 24 (dk_at dksJ6_init_0 11 rfl rfl)
theorem dJ6_init_14 : decode cJ6_init 14 = .ok (.iload_n 1, 1) := dk_27 (dk_at dksJ6_init_0 14 rfl rfl)
theorem dJ6_init_15 : decode cJ6_init 15 = .ok (.ifCond .ge 30, 3) := dk_156 0 30 (dk_at dksJ6_init_0 15 rfl rfl)
theorem dJ6_init_18 : decode cJ6_init 18 = .ok (.new 31, 3) := dk_187 0 31 (dk_at dksJ6_init_0 18 rfl rfl)
theorem dJ6_init_21 : decode cJ6_init 21 = .ok (.dup, 1) := dk_89 (dk_at dksJ6_init_0 21 rfl rfl)
theorem dJ6_init_22 : decode cJ6_init 22 = .ok (.new 33, 3) := dk_187 0 33 (dk_at dksJ6_init_1 0 rfl rfl)
theorem dJ6_init_25 : decode cJ6_init 25 = .ok (.dup, 1) := dk_89 (dk_at dksJ6_init_1 3 rfl rfl)
theorem dJ6_init_26 : decode cJ6_init 26 = .ok (.invokespecial 35, 3) := dk_183 0 35 (dk_at dksJ6_init_1 4 rfl rfl)
theorem dJ6_init_29 : decode cJ6_init 29 = .ok (.ldc 36, 2) := dk_18 36 (dk_at dksJ6_init_1 7 rfl rfl)
theorem dJ6_init_31 : decode cJ6_init 31 = .ok (.invokevirtual 38, 3) := dk_182 0 38 (dk_at dksJ6_init_1 9 rfl rfl)
theorem dJ6_init_34 : decode cJ6_init 34 = .ok (.iload_n 1, 1) := dk_27 (dk_at dksJ6_init_1 12 rfl rfl)
theorem dJ6_init_35 : decode cJ6_init 35 = .ok (.invokevirtual 42, 3) := dk_182 0 42 (dk_at dksJ6_init_1 13 rfl rfl)
theorem dJ6_init_38 : decode cJ6_init 38 = .ok (.invokevirtual 45, 3) := dk_182 0 45 (dk_at dksJ6_init_1 16 rfl rfl)
theorem dJ6_init_41 : decode cJ6_init 41 = .ok (.invokespecial 49, 3) := dk_183 0 49 (dk_at dksJ6_init_1 19 rfl rfl)
theorem dJ6_init_44 : decode cJ6_init 44 = .ok (.athrow, 1) := dk_191 (dk_at dksJ6_init_1 22 rfl rfl)
theorem dJ6_init_45 : decode cJ6_init 45 = .ok (.aload_n 0, 1) := dk_42 (dk_at dksJ6_init_1 23 rfl rfl)
theorem dJ6_init_46 : decode cJ6_init 46 = .ok (.iload_n 1, 1) := dk_27 (dk_at dksJ6_init_2 0 rfl rfl)
theorem dJ6_init_47 : decode cJ6_init 47 = .ok (.invokevirtual 27, 3) := dk_182 0 27 (dk_at dksJ6_init_2 1 rfl rfl)
theorem dJ6_init_50 : decode cJ6_init 50 = .ok (.aload_n 0, 1) := dk_42 (dk_at dksJ6_init_2 4 rfl rfl)
theorem dJ6_init_51 : decode cJ6_init 51 = .ok (.iconst 1, 1) := dk_4 (dk_at dksJ6_init_2 5 rfl rfl)
theorem dJ6_init_52 : decode cJ6_init 52 = .ok (.putfield 24, 3) := dk_181 0 24 (dk_at dksJ6_init_2 6 rfl rfl)
theorem dJ6_init_55 : decode cJ6_init 55 = .ok (.return_, 1) := dk_177 (dk_at dksJ6_init_2 9 rfl rfl)
abbrev cJ6_initWords : ByteArray := prog_42_method_6_code
def yJ6_initWords : MethodName := ⟨RJ6, "initWords", "(I)V"⟩
def dkwJ6_initWords_0 : List UInt8 := [42, 27, 4, 100, 184, 0, 52, 4, 96, 188, 11, 181, 0, 11, 177]
abbrev dktJ6_initWords_0 : List UInt8 := dkwJ6_initWords_0 ++ []
theorem dksJ6_initWords_0 : cJ6_initWords.data.toList.drop 0 = dktJ6_initWords_0 := by decide +kernel
theorem dJ6_initWords_0 : decode cJ6_initWords 0 = .ok (.aload_n 0, 1) := dk_42 (dk_at dksJ6_initWords_0 0 rfl rfl)
theorem dJ6_initWords_1 : decode cJ6_initWords 1 = .ok (.iload_n 1, 1) := dk_27 (dk_at dksJ6_initWords_0 1 rfl rfl)
theorem dJ6_initWords_2 : decode cJ6_initWords 2 = .ok (.iconst 1, 1) := dk_4 (dk_at dksJ6_initWords_0 2 rfl rfl)
theorem dJ6_initWords_3 : decode cJ6_initWords 3 = .ok (.isub, 1) := dk_100 (dk_at dksJ6_initWords_0 3 rfl rfl)
theorem dJ6_initWords_4 : decode cJ6_initWords 4 = .ok (.invokestatic 52, 3) := dk_184 0 52 (dk_at dksJ6_initWords_0 4 rfl rfl)
theorem dJ6_initWords_7 : decode cJ6_initWords 7 = .ok (.iconst 1, 1) := dk_4 (dk_at dksJ6_initWords_0 7 rfl rfl)
theorem dJ6_initWords_8 : decode cJ6_initWords 8 = .ok (.iadd, 1) := dk_96 (dk_at dksJ6_initWords_0 8 rfl rfl)
theorem dJ6_initWords_9 : decode cJ6_initWords 9 = .ok (.newarray .long, 2) := dk_188_11 (dk_at dksJ6_initWords_0 9 rfl rfl)
theorem dJ6_initWords_11 : decode cJ6_initWords 11 = .ok (.putfield 11, 3) := dk_181 0 11 (dk_at dksJ6_initWords_0 11 rfl rfl)
theorem dJ6_initWords_14 : decode cJ6_initWords 14 = .ok (.return_, 1) := dk_177 (dk_at dksJ6_initWords_0 14 rfl rfl)
abbrev cJ6_wordIndex : ByteArray := prog_42_method_1_code
def yJ6_wordIndex : MethodName := ⟨RJ6, "wordIndex", "(I)I"⟩
def dkwJ6_wordIndex_0 : List UInt8 := [26, 16, 6, 122, 172]
abbrev dktJ6_wordIndex_0 : List UInt8 := dkwJ6_wordIndex_0 ++ []
theorem dksJ6_wordIndex_0 : cJ6_wordIndex.data.toList.drop 0 = dktJ6_wordIndex_0 := by decide +kernel
theorem dJ6_wordIndex_0 : decode cJ6_wordIndex 0 = .ok (.iload_n 0, 1) := dk_26 (dk_at dksJ6_wordIndex_0 0 rfl rfl)
theorem dJ6_wordIndex_1 : decode cJ6_wordIndex 1 = .ok (.bipush 6, 2) := dk_16 6 (dk_at dksJ6_wordIndex_0 1 rfl rfl)
theorem dJ6_wordIndex_3 : decode cJ6_wordIndex 3 = .ok (.ishr, 1) := dk_122 (dk_at dksJ6_wordIndex_0 3 rfl rfl)
theorem dJ6_wordIndex_4 : decode cJ6_wordIndex 4 = .ok (.ireturn, 1) := dk_172 (dk_at dksJ6_wordIndex_0 4 rfl rfl)
abbrev cJ6_clear : ByteArray := prog_42_method_25_code
def yJ6_clear : MethodName := ⟨RJ6, "clear", "()V"⟩
def dkwJ6_clear_1 : List UInt8 := [167, 255, 232, 177]
abbrev dktJ6_clear_1 : List UInt8 := dkwJ6_clear_1 ++ []
def dkwJ6_clear_0 : List UInt8 := [42, 180, 0, 7, 158, 0, 23, 42, 180, 0, 11, 42, 89, 180, 0, 7, 4, 100, 90, 181, 0, 7, 9, 80]
abbrev dktJ6_clear_0 : List UInt8 := dkwJ6_clear_0 ++ dktJ6_clear_1
theorem dksJ6_clear_0 : cJ6_clear.data.toList.drop 0 = dktJ6_clear_0 := by decide +kernel
theorem dksJ6_clear_1 : cJ6_clear.data.toList.drop 24 = dktJ6_clear_1 := dk_seg dksJ6_clear_0 24 rfl rfl
theorem dJ6_clear_0 : decode cJ6_clear 0 = .ok (.aload_n 0, 1) := dk_42 (dk_at dksJ6_clear_0 0 rfl rfl)
theorem dJ6_clear_1 : decode cJ6_clear 1 = .ok (.getfield 7, 3) := dk_180 0 7 (dk_at dksJ6_clear_0 1 rfl rfl)
theorem dJ6_clear_4 : decode cJ6_clear 4 = .ok (.ifCond .le 23, 3) := dk_158 0 23 (dk_at dksJ6_clear_0 4 rfl rfl)
theorem dJ6_clear_7 : decode cJ6_clear 7 = .ok (.aload_n 0, 1) := dk_42 (dk_at dksJ6_clear_0 7 rfl rfl)
theorem dJ6_clear_8 : decode cJ6_clear 8 = .ok (.getfield 11, 3) := dk_180 0 11 (dk_at dksJ6_clear_0 8 rfl rfl)
theorem dJ6_clear_11 : decode cJ6_clear 11 = .ok (.aload_n 0, 1) := dk_42 (dk_at dksJ6_clear_0 11 rfl rfl)
theorem dJ6_clear_12 : decode cJ6_clear 12 = .ok (.dup, 1) := dk_89 (dk_at dksJ6_clear_0 12 rfl rfl)
theorem dJ6_clear_13 : decode cJ6_clear 13 = .ok (.getfield 7, 3) := dk_180 0 7 (dk_at dksJ6_clear_0 13 rfl rfl)
theorem dJ6_clear_16 : decode cJ6_clear 16 = .ok (.iconst 1, 1) := dk_4 (dk_at dksJ6_clear_0 16 rfl rfl)
theorem dJ6_clear_17 : decode cJ6_clear 17 = .ok (.isub, 1) := dk_100 (dk_at dksJ6_clear_0 17 rfl rfl)
theorem dJ6_clear_18 : decode cJ6_clear 18 = .ok (.dup_x1, 1) := dk_90 (dk_at dksJ6_clear_0 18 rfl rfl)
theorem dJ6_clear_19 : decode cJ6_clear 19 = .ok (.putfield 7, 3) := dk_181 0 7 (dk_at dksJ6_clear_0 19 rfl rfl)
theorem dJ6_clear_22 : decode cJ6_clear 22 = .ok (.lconst 0, 1) := dk_9 (dk_at dksJ6_clear_0 22 rfl rfl)
theorem dJ6_clear_23 : decode cJ6_clear 23 = .ok (.lastore, 1) := dk_80 (dk_at dksJ6_clear_0 23 rfl rfl)
theorem dJ6_clear_24 : decode cJ6_clear 24 = .ok (.goto (-24), 3) := dk_167 255 232 (dk_at dksJ6_clear_1 0 rfl rfl)
theorem dJ6_clear_27 : decode cJ6_clear 27 = .ok (.return_, 1) := dk_177 (dk_at dksJ6_clear_1 3 rfl rfl)
abbrev cJ6_nextSetBit : ByteArray := prog_42_method_28_code
def yJ6_nextSetBit : MethodName := ⟨RJ6, "nextSetBit", "(I)I"⟩
def dkwJ6_nextSetBit_4 : List UInt8 := [28, 47, 66, 167, 255, 220]
abbrev dktJ6_nextSetBit_4 : List UInt8 := dkwJ6_nextSetBit_4 ++ []
def dkwJ6_nextSetBit_3 : List UInt8 := [104, 33, 184, 0, 182, 96, 172, 132, 2, 1, 28, 42, 180, 0, 7, 160, 0, 5, 2, 172, 42, 180, 0, 11]
abbrev dktJ6_nextSetBit_3 : List UInt8 := dkwJ6_nextSetBit_3 ++ dktJ6_nextSetBit_4
def dkwJ6_nextSetBit_2 : List UInt8 := [2, 172, 42, 180, 0, 11, 28, 47, 20, 0, 165, 27, 121, 127, 66, 33, 9, 148, 153, 0, 13, 28, 16, 64]
abbrev dktJ6_nextSetBit_2 : List UInt8 := dkwJ6_nextSetBit_2 ++ dktJ6_nextSetBit_3
def dkwJ6_nextSetBit_1 : List UInt8 := [182, 0, 45, 183, 0, 146, 191, 42, 182, 0, 56, 27, 184, 0, 52, 61, 28, 42, 180, 0, 7, 161, 0, 5]
abbrev dktJ6_nextSetBit_1 : List UInt8 := dkwJ6_nextSetBit_1 ++ dktJ6_nextSetBit_2
def dkwJ6_nextSetBit_0 : List UInt8 := [27, 156, 0, 30, 187, 0, 142, 89, 187, 0, 33, 89, 183, 0, 35, 18, 144, 182, 0, 38, 27, 182, 0, 42]
abbrev dktJ6_nextSetBit_0 : List UInt8 := dkwJ6_nextSetBit_0 ++ dktJ6_nextSetBit_1
theorem dksJ6_nextSetBit_0 : cJ6_nextSetBit.data.toList.drop 0 = dktJ6_nextSetBit_0 := by decide +kernel
theorem dksJ6_nextSetBit_1 : cJ6_nextSetBit.data.toList.drop 24 = dktJ6_nextSetBit_1 := dk_seg dksJ6_nextSetBit_0 24 rfl rfl
theorem dksJ6_nextSetBit_2 : cJ6_nextSetBit.data.toList.drop 48 = dktJ6_nextSetBit_2 := dk_seg dksJ6_nextSetBit_1 24 rfl rfl
theorem dksJ6_nextSetBit_3 : cJ6_nextSetBit.data.toList.drop 72 = dktJ6_nextSetBit_3 := dk_seg dksJ6_nextSetBit_2 24 rfl rfl
theorem dksJ6_nextSetBit_4 : cJ6_nextSetBit.data.toList.drop 96 = dktJ6_nextSetBit_4 := dk_seg dksJ6_nextSetBit_3 24 rfl rfl
theorem dJ6_nextSetBit_0 : decode cJ6_nextSetBit 0 = .ok (.iload_n 1, 1) := dk_27 (dk_at dksJ6_nextSetBit_0 0 rfl rfl)
theorem dJ6_nextSetBit_1 : decode cJ6_nextSetBit 1 = .ok (.ifCond .ge 30, 3) := dk_156 0 30 (dk_at dksJ6_nextSetBit_0 1 rfl rfl)
theorem dJ6_nextSetBit_4 : decode cJ6_nextSetBit 4 = .ok (.new 142, 3) := dk_187 0 142 (dk_at dksJ6_nextSetBit_0 4 rfl rfl)
theorem dJ6_nextSetBit_7 : decode cJ6_nextSetBit 7 = .ok (.dup, 1) := dk_89 (dk_at dksJ6_nextSetBit_0 7 rfl rfl)
theorem dJ6_nextSetBit_8 : decode cJ6_nextSetBit 8 = .ok (.new 33, 3) := dk_187 0 33 (dk_at dksJ6_nextSetBit_0 8 rfl rfl)
theorem dJ6_nextSetBit_11 : decode cJ6_nextSetBit 11 = .ok (.dup, 1) := dk_89 (dk_at dksJ6_nextSetBit_0 11 rfl rfl)
theorem dJ6_nextSetBit_12 : decode cJ6_nextSetBit 12 = .ok (.invokespecial 35, 3) := dk_183 0 35 (dk_at dksJ6_nextSetBit_0 12 rfl rfl)
theorem dJ6_nextSetBit_15 : decode cJ6_nextSetBit 15 = .ok (.ldc 144, 2) := dk_18 144 (dk_at dksJ6_nextSetBit_0 15 rfl rfl)
theorem dJ6_nextSetBit_17 : decode cJ6_nextSetBit 17 = .ok (.invokevirtual 38, 3) := dk_182 0 38 (dk_at dksJ6_nextSetBit_0 17 rfl rfl)
theorem dJ6_nextSetBit_20 : decode cJ6_nextSetBit 20 = .ok (.iload_n 1, 1) := dk_27 (dk_at dksJ6_nextSetBit_0 20 rfl rfl)
theorem dJ6_nextSetBit_21 : decode cJ6_nextSetBit 21 = .ok (.invokevirtual 42, 3) := dk_182 0 42 (dk_at dksJ6_nextSetBit_0 21 rfl rfl)
theorem dJ6_nextSetBit_24 : decode cJ6_nextSetBit 24 = .ok (.invokevirtual 45, 3) := dk_182 0 45 (dk_at dksJ6_nextSetBit_1 0 rfl rfl)
theorem dJ6_nextSetBit_27 : decode cJ6_nextSetBit 27 = .ok (.invokespecial 146, 3) := dk_183 0 146 (dk_at dksJ6_nextSetBit_1 3 rfl rfl)
theorem dJ6_nextSetBit_30 : decode cJ6_nextSetBit 30 = .ok (.athrow, 1) := dk_191 (dk_at dksJ6_nextSetBit_1 6 rfl rfl)
theorem dJ6_nextSetBit_31 : decode cJ6_nextSetBit 31 = .ok (.aload_n 0, 1) := dk_42 (dk_at dksJ6_nextSetBit_1 7 rfl rfl)
theorem dJ6_nextSetBit_32 : decode cJ6_nextSetBit 32 = .ok (.invokevirtual 56, 3) := dk_182 0 56 (dk_at dksJ6_nextSetBit_1 8 rfl rfl)
theorem dJ6_nextSetBit_35 : decode cJ6_nextSetBit 35 = .ok (.iload_n 1, 1) := dk_27 (dk_at dksJ6_nextSetBit_1 11 rfl rfl)
theorem dJ6_nextSetBit_36 : decode cJ6_nextSetBit 36 = .ok (.invokestatic 52, 3) := dk_184 0 52 (dk_at dksJ6_nextSetBit_1 12 rfl rfl)
theorem dJ6_nextSetBit_39 : decode cJ6_nextSetBit 39 = .ok (.istore_n 2, 1) := dk_61 (dk_at dksJ6_nextSetBit_1 15 rfl rfl)
theorem dJ6_nextSetBit_40 : decode cJ6_nextSetBit 40 = .ok (.iload_n 2, 1) := dk_28 (dk_at dksJ6_nextSetBit_1 16 rfl rfl)
theorem dJ6_nextSetBit_41 : decode cJ6_nextSetBit 41 = .ok (.aload_n 0, 1) := dk_42 (dk_at dksJ6_nextSetBit_1 17 rfl rfl)
theorem dJ6_nextSetBit_42 : decode cJ6_nextSetBit 42 = .ok (.getfield 7, 3) := dk_180 0 7 (dk_at dksJ6_nextSetBit_1 18 rfl rfl)
theorem dJ6_nextSetBit_45 : decode cJ6_nextSetBit 45 = .ok (.if_icmp .lt 5, 3) := dk_161 0 5 (dk_at dksJ6_nextSetBit_1 21 rfl rfl)
theorem dJ6_nextSetBit_48 : decode cJ6_nextSetBit 48 = .ok (.iconst (-1), 1) := dk_2 (dk_at dksJ6_nextSetBit_2 0 rfl rfl)
theorem dJ6_nextSetBit_49 : decode cJ6_nextSetBit 49 = .ok (.ireturn, 1) := dk_172 (dk_at dksJ6_nextSetBit_2 1 rfl rfl)
theorem dJ6_nextSetBit_50 : decode cJ6_nextSetBit 50 = .ok (.aload_n 0, 1) := dk_42 (dk_at dksJ6_nextSetBit_2 2 rfl rfl)
theorem dJ6_nextSetBit_51 : decode cJ6_nextSetBit 51 = .ok (.getfield 11, 3) := dk_180 0 11 (dk_at dksJ6_nextSetBit_2 3 rfl rfl)
theorem dJ6_nextSetBit_54 : decode cJ6_nextSetBit 54 = .ok (.iload_n 2, 1) := dk_28 (dk_at dksJ6_nextSetBit_2 6 rfl rfl)
theorem dJ6_nextSetBit_55 : decode cJ6_nextSetBit 55 = .ok (.laload, 1) := dk_47 (dk_at dksJ6_nextSetBit_2 7 rfl rfl)
theorem dJ6_nextSetBit_56 : decode cJ6_nextSetBit 56 = .ok (.ldc2_w 165, 3) := dk_20 0 165 (dk_at dksJ6_nextSetBit_2 8 rfl rfl)
theorem dJ6_nextSetBit_59 : decode cJ6_nextSetBit 59 = .ok (.iload_n 1, 1) := dk_27 (dk_at dksJ6_nextSetBit_2 11 rfl rfl)
theorem dJ6_nextSetBit_60 : decode cJ6_nextSetBit 60 = .ok (.lshl, 1) := dk_121 (dk_at dksJ6_nextSetBit_2 12 rfl rfl)
theorem dJ6_nextSetBit_61 : decode cJ6_nextSetBit 61 = .ok (.land, 1) := dk_127 (dk_at dksJ6_nextSetBit_2 13 rfl rfl)
theorem dJ6_nextSetBit_62 : decode cJ6_nextSetBit 62 = .ok (.lstore_n 3, 1) := dk_66 (dk_at dksJ6_nextSetBit_2 14 rfl rfl)
theorem dJ6_nextSetBit_63 : decode cJ6_nextSetBit 63 = .ok (.lload_n 3, 1) := dk_33 (dk_at dksJ6_nextSetBit_2 15 rfl rfl)
theorem dJ6_nextSetBit_64 : decode cJ6_nextSetBit 64 = .ok (.lconst 0, 1) := dk_9 (dk_at dksJ6_nextSetBit_2 16 rfl rfl)
theorem dJ6_nextSetBit_65 : decode cJ6_nextSetBit 65 = .ok (.lcmp, 1) := dk_148 (dk_at dksJ6_nextSetBit_2 17 rfl rfl)
theorem dJ6_nextSetBit_66 : decode cJ6_nextSetBit 66 = .ok (.ifCond .eq 13, 3) := dk_153 0 13 (dk_at dksJ6_nextSetBit_2 18 rfl rfl)
theorem dJ6_nextSetBit_69 : decode cJ6_nextSetBit 69 = .ok (.iload_n 2, 1) := dk_28 (dk_at dksJ6_nextSetBit_2 21 rfl rfl)
theorem dJ6_nextSetBit_70 : decode cJ6_nextSetBit 70 = .ok (.bipush 64, 2) := dk_16 64 (dk_at dksJ6_nextSetBit_2 22 rfl rfl)
theorem dJ6_nextSetBit_72 : decode cJ6_nextSetBit 72 = .ok (.imul, 1) := dk_104 (dk_at dksJ6_nextSetBit_3 0 rfl rfl)
theorem dJ6_nextSetBit_73 : decode cJ6_nextSetBit 73 = .ok (.lload_n 3, 1) := dk_33 (dk_at dksJ6_nextSetBit_3 1 rfl rfl)
theorem dJ6_nextSetBit_74 : decode cJ6_nextSetBit 74 = .ok (.invokestatic 182, 3) := dk_184 0 182 (dk_at dksJ6_nextSetBit_3 2 rfl rfl)
theorem dJ6_nextSetBit_77 : decode cJ6_nextSetBit 77 = .ok (.iadd, 1) := dk_96 (dk_at dksJ6_nextSetBit_3 5 rfl rfl)
theorem dJ6_nextSetBit_78 : decode cJ6_nextSetBit 78 = .ok (.ireturn, 1) := dk_172 (dk_at dksJ6_nextSetBit_3 6 rfl rfl)
theorem dJ6_nextSetBit_79 : decode cJ6_nextSetBit 79 = .ok (.iinc 2 1, 3) := dk_132 2 1 (dk_at dksJ6_nextSetBit_3 7 rfl rfl)
theorem dJ6_nextSetBit_82 : decode cJ6_nextSetBit 82 = .ok (.iload_n 2, 1) := dk_28 (dk_at dksJ6_nextSetBit_3 10 rfl rfl)
theorem dJ6_nextSetBit_83 : decode cJ6_nextSetBit 83 = .ok (.aload_n 0, 1) := dk_42 (dk_at dksJ6_nextSetBit_3 11 rfl rfl)
theorem dJ6_nextSetBit_84 : decode cJ6_nextSetBit 84 = .ok (.getfield 7, 3) := dk_180 0 7 (dk_at dksJ6_nextSetBit_3 12 rfl rfl)
theorem dJ6_nextSetBit_87 : decode cJ6_nextSetBit 87 = .ok (.if_icmp .ne 5, 3) := dk_160 0 5 (dk_at dksJ6_nextSetBit_3 15 rfl rfl)
theorem dJ6_nextSetBit_90 : decode cJ6_nextSetBit 90 = .ok (.iconst (-1), 1) := dk_2 (dk_at dksJ6_nextSetBit_3 18 rfl rfl)
theorem dJ6_nextSetBit_91 : decode cJ6_nextSetBit 91 = .ok (.ireturn, 1) := dk_172 (dk_at dksJ6_nextSetBit_3 19 rfl rfl)
theorem dJ6_nextSetBit_92 : decode cJ6_nextSetBit 92 = .ok (.aload_n 0, 1) := dk_42 (dk_at dksJ6_nextSetBit_3 20 rfl rfl)
theorem dJ6_nextSetBit_93 : decode cJ6_nextSetBit 93 = .ok (.getfield 11, 3) := dk_180 0 11 (dk_at dksJ6_nextSetBit_3 21 rfl rfl)
theorem dJ6_nextSetBit_96 : decode cJ6_nextSetBit 96 = .ok (.iload_n 2, 1) := dk_28 (dk_at dksJ6_nextSetBit_4 0 rfl rfl)
theorem dJ6_nextSetBit_97 : decode cJ6_nextSetBit 97 = .ok (.laload, 1) := dk_47 (dk_at dksJ6_nextSetBit_4 1 rfl rfl)
theorem dJ6_nextSetBit_98 : decode cJ6_nextSetBit 98 = .ok (.lstore_n 3, 1) := dk_66 (dk_at dksJ6_nextSetBit_4 2 rfl rfl)
theorem dJ6_nextSetBit_99 : decode cJ6_nextSetBit 99 = .ok (.goto (-36), 3) := dk_167 255 220 (dk_at dksJ6_nextSetBit_4 3 rfl rfl)
abbrev cJ6_checkInvariants : ByteArray := prog_42_method_2_code
def yJ6_checkInvariants : MethodName := ⟨RJ6, "checkInvariants", "()V"⟩
def dkwJ6_checkInvariants_4 : List UInt8 := [180, 0, 7, 47, 9, 148, 153, 0, 11, 187, 0, 15, 89, 183, 0, 17, 191, 177]
abbrev dktJ6_checkInvariants_4 : List UInt8 := dkwJ6_checkInvariants_4 ++ []
def dkwJ6_checkInvariants_3 : List UInt8 := [178, 0, 3, 154, 0, 37, 42, 180, 0, 7, 42, 180, 0, 11, 190, 159, 0, 25, 42, 180, 0, 11, 42]
abbrev dktJ6_checkInvariants_3 : List UInt8 := dkwJ6_checkInvariants_3 ++ dktJ6_checkInvariants_4
def dkwJ6_checkInvariants_2 : List UInt8 := [155, 0, 15, 42, 180, 0, 7, 42, 180, 0, 11, 190, 164, 0, 11, 187, 0, 15, 89, 183, 0, 17, 191]
abbrev dktJ6_checkInvariants_2 : List UInt8 := dkwJ6_checkInvariants_2 ++ dktJ6_checkInvariants_3
def dkwJ6_checkInvariants_1 : List UInt8 := [9, 148, 154, 0, 11, 187, 0, 15, 89, 183, 0, 17, 191, 178, 0, 3, 154, 0, 30, 42, 180, 0, 7]
abbrev dktJ6_checkInvariants_1 : List UInt8 := dkwJ6_checkInvariants_1 ++ dktJ6_checkInvariants_2
def dkwJ6_checkInvariants_0 : List UInt8 := [178, 0, 3, 154, 0, 34, 42, 180, 0, 7, 153, 0, 27, 42, 180, 0, 11, 42, 180, 0, 7, 4, 100, 47]
abbrev dktJ6_checkInvariants_0 : List UInt8 := dkwJ6_checkInvariants_0 ++ dktJ6_checkInvariants_1
theorem dksJ6_checkInvariants_0 : cJ6_checkInvariants.data.toList.drop 0 = dktJ6_checkInvariants_0 := by decide +kernel
theorem dksJ6_checkInvariants_1 : cJ6_checkInvariants.data.toList.drop 24 = dktJ6_checkInvariants_1 := dk_seg dksJ6_checkInvariants_0 24 rfl rfl
theorem dksJ6_checkInvariants_2 : cJ6_checkInvariants.data.toList.drop 47 = dktJ6_checkInvariants_2 := dk_seg dksJ6_checkInvariants_1 23 rfl rfl
theorem dksJ6_checkInvariants_3 : cJ6_checkInvariants.data.toList.drop 70 = dktJ6_checkInvariants_3 := dk_seg dksJ6_checkInvariants_2 23 rfl rfl
theorem dksJ6_checkInvariants_4 : cJ6_checkInvariants.data.toList.drop 93 = dktJ6_checkInvariants_4 := dk_seg dksJ6_checkInvariants_3 23 rfl rfl
theorem dJ6_checkInvariants_0 : decode cJ6_checkInvariants 0 = .ok (.getstatic 3, 3) := dk_178 0 3 (dk_at dksJ6_checkInvariants_0 0 rfl rfl)
theorem dJ6_checkInvariants_3 : decode cJ6_checkInvariants 3 = .ok (.ifCond .ne 34, 3) := dk_154 0 34 (dk_at dksJ6_checkInvariants_0 3 rfl rfl)
theorem dJ6_checkInvariants_6 : decode cJ6_checkInvariants 6 = .ok (.aload_n 0, 1) := dk_42 (dk_at dksJ6_checkInvariants_0 6 rfl rfl)
theorem dJ6_checkInvariants_7 : decode cJ6_checkInvariants 7 = .ok (.getfield 7, 3) := dk_180 0 7 (dk_at dksJ6_checkInvariants_0 7 rfl rfl)
theorem dJ6_checkInvariants_10 : decode cJ6_checkInvariants 10 = .ok (.ifCond .eq 27, 3) := dk_153 0 27 (dk_at dksJ6_checkInvariants_0 10 rfl rfl)
theorem dJ6_checkInvariants_13 : decode cJ6_checkInvariants 13 = .ok (.aload_n 0, 1) := dk_42 (dk_at dksJ6_checkInvariants_0 13 rfl rfl)
theorem dJ6_checkInvariants_14 : decode cJ6_checkInvariants 14 = .ok (.getfield 11, 3) := dk_180 0 11 (dk_at dksJ6_checkInvariants_0 14 rfl rfl)
theorem dJ6_checkInvariants_17 : decode cJ6_checkInvariants 17 = .ok (.aload_n 0, 1) := dk_42 (dk_at dksJ6_checkInvariants_0 17 rfl rfl)
theorem dJ6_checkInvariants_18 : decode cJ6_checkInvariants 18 = .ok (.getfield 7, 3) := dk_180 0 7 (dk_at dksJ6_checkInvariants_0 18 rfl rfl)
theorem dJ6_checkInvariants_21 : decode cJ6_checkInvariants 21 = .ok (.iconst 1, 1) := dk_4 (dk_at dksJ6_checkInvariants_0 21 rfl rfl)
theorem dJ6_checkInvariants_22 : decode cJ6_checkInvariants 22 = .ok (.isub, 1) := dk_100 (dk_at dksJ6_checkInvariants_0 22 rfl rfl)
theorem dJ6_checkInvariants_23 : decode cJ6_checkInvariants 23 = .ok (.laload, 1) := dk_47 (dk_at dksJ6_checkInvariants_0 23 rfl rfl)
theorem dJ6_checkInvariants_24 : decode cJ6_checkInvariants 24 = .ok (.lconst 0, 1) := dk_9 (dk_at dksJ6_checkInvariants_1 0 rfl rfl)
theorem dJ6_checkInvariants_25 : decode cJ6_checkInvariants 25 = .ok (.lcmp, 1) := dk_148 (dk_at dksJ6_checkInvariants_1 1 rfl rfl)
theorem dJ6_checkInvariants_26 : decode cJ6_checkInvariants 26 = .ok (.ifCond .ne 11, 3) := dk_154 0 11 (dk_at dksJ6_checkInvariants_1 2 rfl rfl)
theorem dJ6_checkInvariants_29 : decode cJ6_checkInvariants 29 = .ok (.new 15, 3) := dk_187 0 15 (dk_at dksJ6_checkInvariants_1 5 rfl rfl)
theorem dJ6_checkInvariants_32 : decode cJ6_checkInvariants 32 = .ok (.dup, 1) := dk_89 (dk_at dksJ6_checkInvariants_1 8 rfl rfl)
theorem dJ6_checkInvariants_33 : decode cJ6_checkInvariants 33 = .ok (.invokespecial 17, 3) := dk_183 0 17 (dk_at dksJ6_checkInvariants_1 9 rfl rfl)
theorem dJ6_checkInvariants_36 : decode cJ6_checkInvariants 36 = .ok (.athrow, 1) := dk_191 (dk_at dksJ6_checkInvariants_1 12 rfl rfl)
theorem dJ6_checkInvariants_37 : decode cJ6_checkInvariants 37 = .ok (.getstatic 3, 3) := dk_178 0 3 (dk_at dksJ6_checkInvariants_1 13 rfl rfl)
theorem dJ6_checkInvariants_40 : decode cJ6_checkInvariants 40 = .ok (.ifCond .ne 30, 3) := dk_154 0 30 (dk_at dksJ6_checkInvariants_1 16 rfl rfl)
theorem dJ6_checkInvariants_43 : decode cJ6_checkInvariants 43 = .ok (.aload_n 0, 1) := dk_42 (dk_at dksJ6_checkInvariants_1 19 rfl rfl)
theorem dJ6_checkInvariants_44 : decode cJ6_checkInvariants 44 = .ok (.getfield 7, 3) := dk_180 0 7 (dk_at dksJ6_checkInvariants_1 20 rfl rfl)
theorem dJ6_checkInvariants_47 : decode cJ6_checkInvariants 47 = .ok (.ifCond .lt 15, 3) := dk_155 0 15 (dk_at dksJ6_checkInvariants_2 0 rfl rfl)
theorem dJ6_checkInvariants_50 : decode cJ6_checkInvariants 50 = .ok (.aload_n 0, 1) := dk_42 (dk_at dksJ6_checkInvariants_2 3 rfl rfl)
theorem dJ6_checkInvariants_51 : decode cJ6_checkInvariants 51 = .ok (.getfield 7, 3) := dk_180 0 7 (dk_at dksJ6_checkInvariants_2 4 rfl rfl)
theorem dJ6_checkInvariants_54 : decode cJ6_checkInvariants 54 = .ok (.aload_n 0, 1) := dk_42 (dk_at dksJ6_checkInvariants_2 7 rfl rfl)
theorem dJ6_checkInvariants_55 : decode cJ6_checkInvariants 55 = .ok (.getfield 11, 3) := dk_180 0 11 (dk_at dksJ6_checkInvariants_2 8 rfl rfl)
theorem dJ6_checkInvariants_58 : decode cJ6_checkInvariants 58 = .ok (.arraylength, 1) := dk_190 (dk_at dksJ6_checkInvariants_2 11 rfl rfl)
theorem dJ6_checkInvariants_59 : decode cJ6_checkInvariants 59 = .ok (.if_icmp .le 11, 3) := dk_164 0 11 (dk_at dksJ6_checkInvariants_2 12 rfl rfl)
theorem dJ6_checkInvariants_62 : decode cJ6_checkInvariants 62 = .ok (.new 15, 3) := dk_187 0 15 (dk_at dksJ6_checkInvariants_2 15 rfl rfl)
theorem dJ6_checkInvariants_65 : decode cJ6_checkInvariants 65 = .ok (.dup, 1) := dk_89 (dk_at dksJ6_checkInvariants_2 18 rfl rfl)
theorem dJ6_checkInvariants_66 : decode cJ6_checkInvariants 66 = .ok (.invokespecial 17, 3) := dk_183 0 17 (dk_at dksJ6_checkInvariants_2 19 rfl rfl)
theorem dJ6_checkInvariants_69 : decode cJ6_checkInvariants 69 = .ok (.athrow, 1) := dk_191 (dk_at dksJ6_checkInvariants_2 22 rfl rfl)
theorem dJ6_checkInvariants_70 : decode cJ6_checkInvariants 70 = .ok (.getstatic 3, 3) := dk_178 0 3 (dk_at dksJ6_checkInvariants_3 0 rfl rfl)
theorem dJ6_checkInvariants_73 : decode cJ6_checkInvariants 73 = .ok (.ifCond .ne 37, 3) := dk_154 0 37 (dk_at dksJ6_checkInvariants_3 3 rfl rfl)
theorem dJ6_checkInvariants_76 : decode cJ6_checkInvariants 76 = .ok (.aload_n 0, 1) := dk_42 (dk_at dksJ6_checkInvariants_3 6 rfl rfl)
theorem dJ6_checkInvariants_77 : decode cJ6_checkInvariants 77 = .ok (.getfield 7, 3) := dk_180 0 7 (dk_at dksJ6_checkInvariants_3 7 rfl rfl)
theorem dJ6_checkInvariants_80 : decode cJ6_checkInvariants 80 = .ok (.aload_n 0, 1) := dk_42 (dk_at dksJ6_checkInvariants_3 10 rfl rfl)
theorem dJ6_checkInvariants_81 : decode cJ6_checkInvariants 81 = .ok (.getfield 11, 3) := dk_180 0 11 (dk_at dksJ6_checkInvariants_3 11 rfl rfl)
theorem dJ6_checkInvariants_84 : decode cJ6_checkInvariants 84 = .ok (.arraylength, 1) := dk_190 (dk_at dksJ6_checkInvariants_3 14 rfl rfl)
theorem dJ6_checkInvariants_85 : decode cJ6_checkInvariants 85 = .ok (.if_icmp .eq 25, 3) := dk_159 0 25 (dk_at dksJ6_checkInvariants_3 15 rfl rfl)
theorem dJ6_checkInvariants_88 : decode cJ6_checkInvariants 88 = .ok (.aload_n 0, 1) := dk_42 (dk_at dksJ6_checkInvariants_3 18 rfl rfl)
theorem dJ6_checkInvariants_89 : decode cJ6_checkInvariants 89 = .ok (.getfield 11, 3) := dk_180 0 11 (dk_at dksJ6_checkInvariants_3 19 rfl rfl)
theorem dJ6_checkInvariants_92 : decode cJ6_checkInvariants 92 = .ok (.aload_n 0, 1) := dk_42 (dk_at dksJ6_checkInvariants_3 22 rfl rfl)
theorem dJ6_checkInvariants_93 : decode cJ6_checkInvariants 93 = .ok (.getfield 7, 3) := dk_180 0 7 (dk_at dksJ6_checkInvariants_4 0 rfl rfl)
theorem dJ6_checkInvariants_96 : decode cJ6_checkInvariants 96 = .ok (.laload, 1) := dk_47 (dk_at dksJ6_checkInvariants_4 3 rfl rfl)
theorem dJ6_checkInvariants_97 : decode cJ6_checkInvariants 97 = .ok (.lconst 0, 1) := dk_9 (dk_at dksJ6_checkInvariants_4 4 rfl rfl)
theorem dJ6_checkInvariants_98 : decode cJ6_checkInvariants 98 = .ok (.lcmp, 1) := dk_148 (dk_at dksJ6_checkInvariants_4 5 rfl rfl)
theorem dJ6_checkInvariants_99 : decode cJ6_checkInvariants 99 = .ok (.ifCond .eq 11, 3) := dk_153 0 11 (dk_at dksJ6_checkInvariants_4 6 rfl rfl)
theorem dJ6_checkInvariants_102 : decode cJ6_checkInvariants 102 = .ok (.new 15, 3) := dk_187 0 15 (dk_at dksJ6_checkInvariants_4 9 rfl rfl)
theorem dJ6_checkInvariants_105 : decode cJ6_checkInvariants 105 = .ok (.dup, 1) := dk_89 (dk_at dksJ6_checkInvariants_4 12 rfl rfl)
theorem dJ6_checkInvariants_106 : decode cJ6_checkInvariants 106 = .ok (.invokespecial 17, 3) := dk_183 0 17 (dk_at dksJ6_checkInvariants_4 13 rfl rfl)
theorem dJ6_checkInvariants_109 : decode cJ6_checkInvariants 109 = .ok (.athrow, 1) := dk_191 (dk_at dksJ6_checkInvariants_4 16 rfl rfl)
theorem dJ6_checkInvariants_110 : decode cJ6_checkInvariants 110 = .ok (.return_, 1) := dk_177 (dk_at dksJ6_checkInvariants_4 17 rfl rfl)
abbrev cJ6_clear_2 : ByteArray := prog_42_method_23_code
def yJ6_clear_2 : MethodName := ⟨RJ6, "clear", "(I)V"⟩
def dkwJ6_clear_2_2 : List UInt8 := [180, 0, 11, 28, 92, 47, 10, 27, 121, 20, 0, 165, 131, 127, 80, 42, 182, 0, 158, 42, 182, 0, 56, 177]
abbrev dktJ6_clear_2_2 : List UInt8 := dkwJ6_clear_2_2 ++ []
def dkwJ6_clear_2_1 : List UInt8 := [182, 0, 45, 183, 0, 146, 191, 27, 184, 0, 52, 61, 28, 42, 180, 0, 7, 161, 0, 4, 177, 42]
abbrev dktJ6_clear_2_1 : List UInt8 := dkwJ6_clear_2_1 ++ dktJ6_clear_2_2
def dkwJ6_clear_2_0 : List UInt8 := [27, 156, 0, 30, 187, 0, 142, 89, 187, 0, 33, 89, 183, 0, 35, 18, 153, 182, 0, 38, 27, 182, 0, 42]
abbrev dktJ6_clear_2_0 : List UInt8 := dkwJ6_clear_2_0 ++ dktJ6_clear_2_1
theorem dksJ6_clear_2_0 : cJ6_clear_2.data.toList.drop 0 = dktJ6_clear_2_0 := by decide +kernel
theorem dksJ6_clear_2_1 : cJ6_clear_2.data.toList.drop 24 = dktJ6_clear_2_1 := dk_seg dksJ6_clear_2_0 24 rfl rfl
theorem dksJ6_clear_2_2 : cJ6_clear_2.data.toList.drop 46 = dktJ6_clear_2_2 := dk_seg dksJ6_clear_2_1 22 rfl rfl
theorem dJ6_clear_2_0 : decode cJ6_clear_2 0 = .ok (.iload_n 1, 1) := dk_27 (dk_at dksJ6_clear_2_0 0 rfl rfl)
theorem dJ6_clear_2_1 : decode cJ6_clear_2 1 = .ok (.ifCond .ge 30, 3) := dk_156 0 30 (dk_at dksJ6_clear_2_0 1 rfl rfl)
theorem dJ6_clear_2_4 : decode cJ6_clear_2 4 = .ok (.new 142, 3) := dk_187 0 142 (dk_at dksJ6_clear_2_0 4 rfl rfl)
theorem dJ6_clear_2_7 : decode cJ6_clear_2 7 = .ok (.dup, 1) := dk_89 (dk_at dksJ6_clear_2_0 7 rfl rfl)
theorem dJ6_clear_2_8 : decode cJ6_clear_2 8 = .ok (.new 33, 3) := dk_187 0 33 (dk_at dksJ6_clear_2_0 8 rfl rfl)
theorem dJ6_clear_2_11 : decode cJ6_clear_2 11 = .ok (.dup, 1) := dk_89 (dk_at dksJ6_clear_2_0 11 rfl rfl)
theorem dJ6_clear_2_12 : decode cJ6_clear_2 12 = .ok (.invokespecial 35, 3) := dk_183 0 35 (dk_at dksJ6_clear_2_0 12 rfl rfl)
theorem dJ6_clear_2_15 : decode cJ6_clear_2 15 = .ok (.ldc 153, 2) := dk_18 153 (dk_at dksJ6_clear_2_0 15 rfl rfl)
theorem dJ6_clear_2_17 : decode cJ6_clear_2 17 = .ok (.invokevirtual 38, 3) := dk_182 0 38 (dk_at dksJ6_clear_2_0 17 rfl rfl)
theorem dJ6_clear_2_20 : decode cJ6_clear_2 20 = .ok (.iload_n 1, 1) := dk_27 (dk_at dksJ6_clear_2_0 20 rfl rfl)
theorem dJ6_clear_2_21 : decode cJ6_clear_2 21 = .ok (.invokevirtual 42, 3) := dk_182 0 42 (dk_at dksJ6_clear_2_0 21 rfl rfl)
theorem dJ6_clear_2_24 : decode cJ6_clear_2 24 = .ok (.invokevirtual 45, 3) := dk_182 0 45 (dk_at dksJ6_clear_2_1 0 rfl rfl)
theorem dJ6_clear_2_27 : decode cJ6_clear_2 27 = .ok (.invokespecial 146, 3) := dk_183 0 146 (dk_at dksJ6_clear_2_1 3 rfl rfl)
theorem dJ6_clear_2_30 : decode cJ6_clear_2 30 = .ok (.athrow, 1) := dk_191 (dk_at dksJ6_clear_2_1 6 rfl rfl)
theorem dJ6_clear_2_31 : decode cJ6_clear_2 31 = .ok (.iload_n 1, 1) := dk_27 (dk_at dksJ6_clear_2_1 7 rfl rfl)
theorem dJ6_clear_2_32 : decode cJ6_clear_2 32 = .ok (.invokestatic 52, 3) := dk_184 0 52 (dk_at dksJ6_clear_2_1 8 rfl rfl)
theorem dJ6_clear_2_35 : decode cJ6_clear_2 35 = .ok (.istore_n 2, 1) := dk_61 (dk_at dksJ6_clear_2_1 11 rfl rfl)
theorem dJ6_clear_2_36 : decode cJ6_clear_2 36 = .ok (.iload_n 2, 1) := dk_28 (dk_at dksJ6_clear_2_1 12 rfl rfl)
theorem dJ6_clear_2_37 : decode cJ6_clear_2 37 = .ok (.aload_n 0, 1) := dk_42 (dk_at dksJ6_clear_2_1 13 rfl rfl)
theorem dJ6_clear_2_38 : decode cJ6_clear_2 38 = .ok (.getfield 7, 3) := dk_180 0 7 (dk_at dksJ6_clear_2_1 14 rfl rfl)
theorem dJ6_clear_2_41 : decode cJ6_clear_2 41 = .ok (.if_icmp .lt 4, 3) := dk_161 0 4 (dk_at dksJ6_clear_2_1 17 rfl rfl)
theorem dJ6_clear_2_44 : decode cJ6_clear_2 44 = .ok (.return_, 1) := dk_177 (dk_at dksJ6_clear_2_1 20 rfl rfl)
theorem dJ6_clear_2_45 : decode cJ6_clear_2 45 = .ok (.aload_n 0, 1) := dk_42 (dk_at dksJ6_clear_2_1 21 rfl rfl)
theorem dJ6_clear_2_46 : decode cJ6_clear_2 46 = .ok (.getfield 11, 3) := dk_180 0 11 (dk_at dksJ6_clear_2_2 0 rfl rfl)
theorem dJ6_clear_2_49 : decode cJ6_clear_2 49 = .ok (.iload_n 2, 1) := dk_28 (dk_at dksJ6_clear_2_2 3 rfl rfl)
theorem dJ6_clear_2_50 : decode cJ6_clear_2 50 = .ok (.dup2, 1) := dk_92 (dk_at dksJ6_clear_2_2 4 rfl rfl)
theorem dJ6_clear_2_51 : decode cJ6_clear_2 51 = .ok (.laload, 1) := dk_47 (dk_at dksJ6_clear_2_2 5 rfl rfl)
theorem dJ6_clear_2_52 : decode cJ6_clear_2 52 = .ok (.lconst 1, 1) := dk_10 (dk_at dksJ6_clear_2_2 6 rfl rfl)
theorem dJ6_clear_2_53 : decode cJ6_clear_2 53 = .ok (.iload_n 1, 1) := dk_27 (dk_at dksJ6_clear_2_2 7 rfl rfl)
theorem dJ6_clear_2_54 : decode cJ6_clear_2 54 = .ok (.lshl, 1) := dk_121 (dk_at dksJ6_clear_2_2 8 rfl rfl)
theorem dJ6_clear_2_55 : decode cJ6_clear_2 55 = .ok (.ldc2_w 165, 3) := dk_20 0 165 (dk_at dksJ6_clear_2_2 9 rfl rfl)
theorem dJ6_clear_2_58 : decode cJ6_clear_2 58 = .ok (.lxor, 1) := dk_131 (dk_at dksJ6_clear_2_2 12 rfl rfl)
theorem dJ6_clear_2_59 : decode cJ6_clear_2 59 = .ok (.land, 1) := dk_127 (dk_at dksJ6_clear_2_2 13 rfl rfl)
theorem dJ6_clear_2_60 : decode cJ6_clear_2 60 = .ok (.lastore, 1) := dk_80 (dk_at dksJ6_clear_2_2 14 rfl rfl)
theorem dJ6_clear_2_61 : decode cJ6_clear_2 61 = .ok (.aload_n 0, 1) := dk_42 (dk_at dksJ6_clear_2_2 15 rfl rfl)
theorem dJ6_clear_2_62 : decode cJ6_clear_2 62 = .ok (.invokevirtual 158, 3) := dk_182 0 158 (dk_at dksJ6_clear_2_2 16 rfl rfl)
theorem dJ6_clear_2_65 : decode cJ6_clear_2 65 = .ok (.aload_n 0, 1) := dk_42 (dk_at dksJ6_clear_2_2 19 rfl rfl)
theorem dJ6_clear_2_66 : decode cJ6_clear_2 66 = .ok (.invokevirtual 56, 3) := dk_182 0 56 (dk_at dksJ6_clear_2_2 20 rfl rfl)
theorem dJ6_clear_2_69 : decode cJ6_clear_2 69 = .ok (.return_, 1) := dk_177 (dk_at dksJ6_clear_2_2 23 rfl rfl)
abbrev cJ6_recalculateWordsInUse : ByteArray := prog_42_method_3_code
def yJ6_recalculateWordsInUse : MethodName := ⟨RJ6, "recalculateWordsInUse", "()V"⟩
def dkwJ6_recalculateWordsInUse_1 : List UInt8 := [167, 0, 9, 132, 1, 255, 167, 255, 235, 42, 27, 4, 96, 181, 0, 7, 177]
abbrev dktJ6_recalculateWordsInUse_1 : List UInt8 := dkwJ6_recalculateWordsInUse_1 ++ []
def dkwJ6_recalculateWordsInUse_0 : List UInt8 := [42, 180, 0, 7, 4, 100, 60, 27, 155, 0, 23, 42, 180, 0, 11, 27, 47, 9, 148, 153, 0, 6]
abbrev dktJ6_recalculateWordsInUse_0 : List UInt8 := dkwJ6_recalculateWordsInUse_0 ++ dktJ6_recalculateWordsInUse_1
theorem dksJ6_recalculateWordsInUse_0 : cJ6_recalculateWordsInUse.data.toList.drop 0 = dktJ6_recalculateWordsInUse_0 := by decide +kernel
theorem dksJ6_recalculateWordsInUse_1 : cJ6_recalculateWordsInUse.data.toList.drop 22 = dktJ6_recalculateWordsInUse_1 := dk_seg dksJ6_recalculateWordsInUse_0 22 rfl rfl
theorem dJ6_recalculateWordsInUse_0 : decode cJ6_recalculateWordsInUse 0 = .ok (.aload_n 0, 1) := dk_42 (dk_at dksJ6_recalculateWordsInUse_0 0 rfl rfl)
theorem dJ6_recalculateWordsInUse_1 : decode cJ6_recalculateWordsInUse 1 = .ok (.getfield 7, 3) := dk_180 0 7 (dk_at dksJ6_recalculateWordsInUse_0 1 rfl rfl)
theorem dJ6_recalculateWordsInUse_4 : decode cJ6_recalculateWordsInUse 4 = .ok (.iconst 1, 1) := dk_4 (dk_at dksJ6_recalculateWordsInUse_0 4 rfl rfl)
theorem dJ6_recalculateWordsInUse_5 : decode cJ6_recalculateWordsInUse 5 = .ok (.isub, 1) := dk_100 (dk_at dksJ6_recalculateWordsInUse_0 5 rfl rfl)
theorem dJ6_recalculateWordsInUse_6 : decode cJ6_recalculateWordsInUse 6 = .ok (.istore_n 1, 1) := dk_60 (dk_at dksJ6_recalculateWordsInUse_0 6 rfl rfl)
theorem dJ6_recalculateWordsInUse_7 : decode cJ6_recalculateWordsInUse 7 = .ok (.iload_n 1, 1) := dk_27 (dk_at dksJ6_recalculateWordsInUse_0 7 rfl rfl)
theorem dJ6_recalculateWordsInUse_8 : decode cJ6_recalculateWordsInUse 8 = .ok (.ifCond .lt 23, 3) := dk_155 0 23 (dk_at dksJ6_recalculateWordsInUse_0 8 rfl rfl)
theorem dJ6_recalculateWordsInUse_11 : decode cJ6_recalculateWordsInUse 11 = .ok (.aload_n 0, 1) := dk_42 (dk_at dksJ6_recalculateWordsInUse_0 11 rfl rfl)
theorem dJ6_recalculateWordsInUse_12 : decode cJ6_recalculateWordsInUse 12 = .ok (.getfield 11, 3) := dk_180 0 11 (dk_at dksJ6_recalculateWordsInUse_0 12 rfl rfl)
theorem dJ6_recalculateWordsInUse_15 : decode cJ6_recalculateWordsInUse 15 = .ok (.iload_n 1, 1) := dk_27 (dk_at dksJ6_recalculateWordsInUse_0 15 rfl rfl)
theorem dJ6_recalculateWordsInUse_16 : decode cJ6_recalculateWordsInUse 16 = .ok (.laload, 1) := dk_47 (dk_at dksJ6_recalculateWordsInUse_0 16 rfl rfl)
theorem dJ6_recalculateWordsInUse_17 : decode cJ6_recalculateWordsInUse 17 = .ok (.lconst 0, 1) := dk_9 (dk_at dksJ6_recalculateWordsInUse_0 17 rfl rfl)
theorem dJ6_recalculateWordsInUse_18 : decode cJ6_recalculateWordsInUse 18 = .ok (.lcmp, 1) := dk_148 (dk_at dksJ6_recalculateWordsInUse_0 18 rfl rfl)
theorem dJ6_recalculateWordsInUse_19 : decode cJ6_recalculateWordsInUse 19 = .ok (.ifCond .eq 6, 3) := dk_153 0 6 (dk_at dksJ6_recalculateWordsInUse_0 19 rfl rfl)
theorem dJ6_recalculateWordsInUse_22 : decode cJ6_recalculateWordsInUse 22 = .ok (.goto 9, 3) := dk_167 0 9 (dk_at dksJ6_recalculateWordsInUse_1 0 rfl rfl)
theorem dJ6_recalculateWordsInUse_25 : decode cJ6_recalculateWordsInUse 25 = .ok (.iinc 1 (-1), 3) := dk_132 1 255 (dk_at dksJ6_recalculateWordsInUse_1 3 rfl rfl)
theorem dJ6_recalculateWordsInUse_28 : decode cJ6_recalculateWordsInUse 28 = .ok (.goto (-21), 3) := dk_167 255 235 (dk_at dksJ6_recalculateWordsInUse_1 6 rfl rfl)
theorem dJ6_recalculateWordsInUse_31 : decode cJ6_recalculateWordsInUse 31 = .ok (.aload_n 0, 1) := dk_42 (dk_at dksJ6_recalculateWordsInUse_1 9 rfl rfl)
theorem dJ6_recalculateWordsInUse_32 : decode cJ6_recalculateWordsInUse 32 = .ok (.iload_n 1, 1) := dk_27 (dk_at dksJ6_recalculateWordsInUse_1 10 rfl rfl)
theorem dJ6_recalculateWordsInUse_33 : decode cJ6_recalculateWordsInUse 33 = .ok (.iconst 1, 1) := dk_4 (dk_at dksJ6_recalculateWordsInUse_1 11 rfl rfl)
theorem dJ6_recalculateWordsInUse_34 : decode cJ6_recalculateWordsInUse 34 = .ok (.iadd, 1) := dk_96 (dk_at dksJ6_recalculateWordsInUse_1 12 rfl rfl)
theorem dJ6_recalculateWordsInUse_35 : decode cJ6_recalculateWordsInUse 35 = .ok (.putfield 7, 3) := dk_181 0 7 (dk_at dksJ6_recalculateWordsInUse_1 13 rfl rfl)
theorem dJ6_recalculateWordsInUse_38 : decode cJ6_recalculateWordsInUse 38 = .ok (.return_, 1) := dk_177 (dk_at dksJ6_recalculateWordsInUse_1 16 rfl rfl)
abbrev cJ6_set : ByteArray := prog_42_method_19_code
def yJ6_set : MethodName := ⟨RJ6, "set", "(I)V"⟩
def dkwJ6_set_2 : List UInt8 := [10, 27, 121, 129, 80, 42, 182, 0, 56, 177]
abbrev dktJ6_set_2 : List UInt8 := dkwJ6_set_2 ++ []
def dkwJ6_set_1 : List UInt8 := [182, 0, 45, 183, 0, 146, 191, 27, 184, 0, 52, 61, 42, 28, 182, 0, 155, 42, 180, 0, 11, 28, 92, 47]
abbrev dktJ6_set_1 : List UInt8 := dkwJ6_set_1 ++ dktJ6_set_2
def dkwJ6_set_0 : List UInt8 := [27, 156, 0, 30, 187, 0, 142, 89, 187, 0, 33, 89, 183, 0, 35, 18, 153, 182, 0, 38, 27, 182, 0, 42]
abbrev dktJ6_set_0 : List UInt8 := dkwJ6_set_0 ++ dktJ6_set_1
theorem dksJ6_set_0 : cJ6_set.data.toList.drop 0 = dktJ6_set_0 := by decide +kernel
theorem dksJ6_set_1 : cJ6_set.data.toList.drop 24 = dktJ6_set_1 := dk_seg dksJ6_set_0 24 rfl rfl
theorem dksJ6_set_2 : cJ6_set.data.toList.drop 48 = dktJ6_set_2 := dk_seg dksJ6_set_1 24 rfl rfl
theorem dJ6_set_0 : decode cJ6_set 0 = .ok (.iload_n 1, 1) := dk_27 (dk_at dksJ6_set_0 0 rfl rfl)
theorem dJ6_set_1 : decode cJ6_set 1 = .ok (.ifCond .ge 30, 3) := dk_156 0 30 (dk_at dksJ6_set_0 1 rfl rfl)
theorem dJ6_set_4 : decode cJ6_set 4 = .ok (.new 142, 3) := dk_187 0 142 (dk_at dksJ6_set_0 4 rfl rfl)
theorem dJ6_set_7 : decode cJ6_set 7 = .ok (.dup, 1) := dk_89 (dk_at dksJ6_set_0 7 rfl rfl)
theorem dJ6_set_8 : decode cJ6_set 8 = .ok (.new 33, 3) := dk_187 0 33 (dk_at dksJ6_set_0 8 rfl rfl)
theorem dJ6_set_11 : decode cJ6_set 11 = .ok (.dup, 1) := dk_89 (dk_at dksJ6_set_0 11 rfl rfl)
theorem dJ6_set_12 : decode cJ6_set 12 = .ok (.invokespecial 35, 3) := dk_183 0 35 (dk_at dksJ6_set_0 12 rfl rfl)
theorem dJ6_set_15 : decode cJ6_set 15 = .ok (.ldc 153, 2) := dk_18 153 (dk_at dksJ6_set_0 15 rfl rfl)
theorem dJ6_set_17 : decode cJ6_set 17 = .ok (.invokevirtual 38, 3) := dk_182 0 38 (dk_at dksJ6_set_0 17 rfl rfl)
theorem dJ6_set_20 : decode cJ6_set 20 = .ok (.iload_n 1, 1) := dk_27 (dk_at dksJ6_set_0 20 rfl rfl)
theorem dJ6_set_21 : decode cJ6_set 21 = .ok (.invokevirtual 42, 3) := dk_182 0 42 (dk_at dksJ6_set_0 21 rfl rfl)
theorem dJ6_set_24 : decode cJ6_set 24 = .ok (.invokevirtual 45, 3) := dk_182 0 45 (dk_at dksJ6_set_1 0 rfl rfl)
theorem dJ6_set_27 : decode cJ6_set 27 = .ok (.invokespecial 146, 3) := dk_183 0 146 (dk_at dksJ6_set_1 3 rfl rfl)
theorem dJ6_set_30 : decode cJ6_set 30 = .ok (.athrow, 1) := dk_191 (dk_at dksJ6_set_1 6 rfl rfl)
theorem dJ6_set_31 : decode cJ6_set 31 = .ok (.iload_n 1, 1) := dk_27 (dk_at dksJ6_set_1 7 rfl rfl)
theorem dJ6_set_32 : decode cJ6_set 32 = .ok (.invokestatic 52, 3) := dk_184 0 52 (dk_at dksJ6_set_1 8 rfl rfl)
theorem dJ6_set_35 : decode cJ6_set 35 = .ok (.istore_n 2, 1) := dk_61 (dk_at dksJ6_set_1 11 rfl rfl)
theorem dJ6_set_36 : decode cJ6_set 36 = .ok (.aload_n 0, 1) := dk_42 (dk_at dksJ6_set_1 12 rfl rfl)
theorem dJ6_set_37 : decode cJ6_set 37 = .ok (.iload_n 2, 1) := dk_28 (dk_at dksJ6_set_1 13 rfl rfl)
theorem dJ6_set_38 : decode cJ6_set 38 = .ok (.invokevirtual 155, 3) := dk_182 0 155 (dk_at dksJ6_set_1 14 rfl rfl)
theorem dJ6_set_41 : decode cJ6_set 41 = .ok (.aload_n 0, 1) := dk_42 (dk_at dksJ6_set_1 17 rfl rfl)
theorem dJ6_set_42 : decode cJ6_set 42 = .ok (.getfield 11, 3) := dk_180 0 11 (dk_at dksJ6_set_1 18 rfl rfl)
theorem dJ6_set_45 : decode cJ6_set 45 = .ok (.iload_n 2, 1) := dk_28 (dk_at dksJ6_set_1 21 rfl rfl)
theorem dJ6_set_46 : decode cJ6_set 46 = .ok (.dup2, 1) := dk_92 (dk_at dksJ6_set_1 22 rfl rfl)
theorem dJ6_set_47 : decode cJ6_set 47 = .ok (.laload, 1) := dk_47 (dk_at dksJ6_set_1 23 rfl rfl)
theorem dJ6_set_48 : decode cJ6_set 48 = .ok (.lconst 1, 1) := dk_10 (dk_at dksJ6_set_2 0 rfl rfl)
theorem dJ6_set_49 : decode cJ6_set 49 = .ok (.iload_n 1, 1) := dk_27 (dk_at dksJ6_set_2 1 rfl rfl)
theorem dJ6_set_50 : decode cJ6_set 50 = .ok (.lshl, 1) := dk_121 (dk_at dksJ6_set_2 2 rfl rfl)
theorem dJ6_set_51 : decode cJ6_set 51 = .ok (.lor, 1) := dk_129 (dk_at dksJ6_set_2 3 rfl rfl)
theorem dJ6_set_52 : decode cJ6_set 52 = .ok (.lastore, 1) := dk_80 (dk_at dksJ6_set_2 4 rfl rfl)
theorem dJ6_set_53 : decode cJ6_set 53 = .ok (.aload_n 0, 1) := dk_42 (dk_at dksJ6_set_2 5 rfl rfl)
theorem dJ6_set_54 : decode cJ6_set 54 = .ok (.invokevirtual 56, 3) := dk_182 0 56 (dk_at dksJ6_set_2 6 rfl rfl)
theorem dJ6_set_57 : decode cJ6_set 57 = .ok (.return_, 1) := dk_177 (dk_at dksJ6_set_2 9 rfl rfl)
abbrev cJ6_expandTo : ByteArray := prog_42_method_15_code
def yJ6_expandTo : MethodName := ⟨RJ6, "expandTo", "(I)V"⟩
def dkwJ6_expandTo_0 : List UInt8 := [27, 4, 96, 61, 42, 180, 0, 7, 28, 162, 0, 13, 42, 28, 182, 0, 139, 42, 28, 181, 0, 7, 177]
abbrev dktJ6_expandTo_0 : List UInt8 := dkwJ6_expandTo_0 ++ []
theorem dksJ6_expandTo_0 : cJ6_expandTo.data.toList.drop 0 = dktJ6_expandTo_0 := by decide +kernel
theorem dJ6_expandTo_0 : decode cJ6_expandTo 0 = .ok (.iload_n 1, 1) := dk_27 (dk_at dksJ6_expandTo_0 0 rfl rfl)
theorem dJ6_expandTo_1 : decode cJ6_expandTo 1 = .ok (.iconst 1, 1) := dk_4 (dk_at dksJ6_expandTo_0 1 rfl rfl)
theorem dJ6_expandTo_2 : decode cJ6_expandTo 2 = .ok (.iadd, 1) := dk_96 (dk_at dksJ6_expandTo_0 2 rfl rfl)
theorem dJ6_expandTo_3 : decode cJ6_expandTo 3 = .ok (.istore_n 2, 1) := dk_61 (dk_at dksJ6_expandTo_0 3 rfl rfl)
theorem dJ6_expandTo_4 : decode cJ6_expandTo 4 = .ok (.aload_n 0, 1) := dk_42 (dk_at dksJ6_expandTo_0 4 rfl rfl)
theorem dJ6_expandTo_5 : decode cJ6_expandTo 5 = .ok (.getfield 7, 3) := dk_180 0 7 (dk_at dksJ6_expandTo_0 5 rfl rfl)
theorem dJ6_expandTo_8 : decode cJ6_expandTo 8 = .ok (.iload_n 2, 1) := dk_28 (dk_at dksJ6_expandTo_0 8 rfl rfl)
theorem dJ6_expandTo_9 : decode cJ6_expandTo 9 = .ok (.if_icmp .ge 13, 3) := dk_162 0 13 (dk_at dksJ6_expandTo_0 9 rfl rfl)
theorem dJ6_expandTo_12 : decode cJ6_expandTo 12 = .ok (.aload_n 0, 1) := dk_42 (dk_at dksJ6_expandTo_0 12 rfl rfl)
theorem dJ6_expandTo_13 : decode cJ6_expandTo 13 = .ok (.iload_n 2, 1) := dk_28 (dk_at dksJ6_expandTo_0 13 rfl rfl)
theorem dJ6_expandTo_14 : decode cJ6_expandTo 14 = .ok (.invokevirtual 139, 3) := dk_182 0 139 (dk_at dksJ6_expandTo_0 14 rfl rfl)
theorem dJ6_expandTo_17 : decode cJ6_expandTo 17 = .ok (.aload_n 0, 1) := dk_42 (dk_at dksJ6_expandTo_0 17 rfl rfl)
theorem dJ6_expandTo_18 : decode cJ6_expandTo 18 = .ok (.iload_n 2, 1) := dk_28 (dk_at dksJ6_expandTo_0 18 rfl rfl)
theorem dJ6_expandTo_19 : decode cJ6_expandTo 19 = .ok (.putfield 7, 3) := dk_181 0 7 (dk_at dksJ6_expandTo_0 19 rfl rfl)
theorem dJ6_expandTo_22 : decode cJ6_expandTo 22 = .ok (.return_, 1) := dk_177 (dk_at dksJ6_expandTo_0 22 rfl rfl)
abbrev cJ6_ensureCapacity : ByteArray := prog_42_method_14_code
def yJ6_ensureCapacity : MethodName := ⟨RJ6, "ensureCapacity", "(I)V"⟩
def dkwJ6_ensureCapacity_1 : List UInt8 := [180, 0, 11, 28, 184, 0, 59, 181, 0, 11, 42, 3, 181, 0, 24, 177]
abbrev dktJ6_ensureCapacity_1 : List UInt8 := dkwJ6_ensureCapacity_1 ++ []
def dkwJ6_ensureCapacity_0 : List UInt8 := [42, 180, 0, 11, 190, 27, 162, 0, 32, 5, 42, 180, 0, 11, 190, 104, 27, 184, 0, 133, 61, 42, 42]
abbrev dktJ6_ensureCapacity_0 : List UInt8 := dkwJ6_ensureCapacity_0 ++ dktJ6_ensureCapacity_1
theorem dksJ6_ensureCapacity_0 : cJ6_ensureCapacity.data.toList.drop 0 = dktJ6_ensureCapacity_0 := by decide +kernel
theorem dksJ6_ensureCapacity_1 : cJ6_ensureCapacity.data.toList.drop 23 = dktJ6_ensureCapacity_1 := dk_seg dksJ6_ensureCapacity_0 23 rfl rfl
theorem dJ6_ensureCapacity_0 : decode cJ6_ensureCapacity 0 = .ok (.aload_n 0, 1) := dk_42 (dk_at dksJ6_ensureCapacity_0 0 rfl rfl)
theorem dJ6_ensureCapacity_1 : decode cJ6_ensureCapacity 1 = .ok (.getfield 11, 3) := dk_180 0 11 (dk_at dksJ6_ensureCapacity_0 1 rfl rfl)
theorem dJ6_ensureCapacity_4 : decode cJ6_ensureCapacity 4 = .ok (.arraylength, 1) := dk_190 (dk_at dksJ6_ensureCapacity_0 4 rfl rfl)
theorem dJ6_ensureCapacity_5 : decode cJ6_ensureCapacity 5 = .ok (.iload_n 1, 1) := dk_27 (dk_at dksJ6_ensureCapacity_0 5 rfl rfl)
theorem dJ6_ensureCapacity_6 : decode cJ6_ensureCapacity 6 = .ok (.if_icmp .ge 32, 3) := dk_162 0 32 (dk_at dksJ6_ensureCapacity_0 6 rfl rfl)
theorem dJ6_ensureCapacity_9 : decode cJ6_ensureCapacity 9 = .ok (.iconst 2, 1) := dk_5 (dk_at dksJ6_ensureCapacity_0 9 rfl rfl)
theorem dJ6_ensureCapacity_10 : decode cJ6_ensureCapacity 10 = .ok (.aload_n 0, 1) := dk_42 (dk_at dksJ6_ensureCapacity_0 10 rfl rfl)
theorem dJ6_ensureCapacity_11 : decode cJ6_ensureCapacity 11 = .ok (.getfield 11, 3) := dk_180 0 11 (dk_at dksJ6_ensureCapacity_0 11 rfl rfl)
theorem dJ6_ensureCapacity_14 : decode cJ6_ensureCapacity 14 = .ok (.arraylength, 1) := dk_190 (dk_at dksJ6_ensureCapacity_0 14 rfl rfl)
theorem dJ6_ensureCapacity_15 : decode cJ6_ensureCapacity 15 = .ok (.imul, 1) := dk_104 (dk_at dksJ6_ensureCapacity_0 15 rfl rfl)
theorem dJ6_ensureCapacity_16 : decode cJ6_ensureCapacity 16 = .ok (.iload_n 1, 1) := dk_27 (dk_at dksJ6_ensureCapacity_0 16 rfl rfl)
theorem dJ6_ensureCapacity_17 : decode cJ6_ensureCapacity 17 = .ok (.invokestatic 133, 3) := dk_184 0 133 (dk_at dksJ6_ensureCapacity_0 17 rfl rfl)
theorem dJ6_ensureCapacity_20 : decode cJ6_ensureCapacity 20 = .ok (.istore_n 2, 1) := dk_61 (dk_at dksJ6_ensureCapacity_0 20 rfl rfl)
theorem dJ6_ensureCapacity_21 : decode cJ6_ensureCapacity 21 = .ok (.aload_n 0, 1) := dk_42 (dk_at dksJ6_ensureCapacity_0 21 rfl rfl)
theorem dJ6_ensureCapacity_22 : decode cJ6_ensureCapacity 22 = .ok (.aload_n 0, 1) := dk_42 (dk_at dksJ6_ensureCapacity_0 22 rfl rfl)
theorem dJ6_ensureCapacity_23 : decode cJ6_ensureCapacity 23 = .ok (.getfield 11, 3) := dk_180 0 11 (dk_at dksJ6_ensureCapacity_1 0 rfl rfl)
theorem dJ6_ensureCapacity_26 : decode cJ6_ensureCapacity 26 = .ok (.iload_n 2, 1) := dk_28 (dk_at dksJ6_ensureCapacity_1 3 rfl rfl)
theorem dJ6_ensureCapacity_27 : decode cJ6_ensureCapacity 27 = .ok (.invokestatic 59, 3) := dk_184 0 59 (dk_at dksJ6_ensureCapacity_1 4 rfl rfl)
theorem dJ6_ensureCapacity_30 : decode cJ6_ensureCapacity 30 = .ok (.putfield 11, 3) := dk_181 0 11 (dk_at dksJ6_ensureCapacity_1 7 rfl rfl)
theorem dJ6_ensureCapacity_33 : decode cJ6_ensureCapacity 33 = .ok (.aload_n 0, 1) := dk_42 (dk_at dksJ6_ensureCapacity_1 10 rfl rfl)
theorem dJ6_ensureCapacity_34 : decode cJ6_ensureCapacity 34 = .ok (.iconst 0, 1) := dk_3 (dk_at dksJ6_ensureCapacity_1 11 rfl rfl)
theorem dJ6_ensureCapacity_35 : decode cJ6_ensureCapacity 35 = .ok (.putfield 24, 3) := dk_181 0 24 (dk_at dksJ6_ensureCapacity_1 12 rfl rfl)
theorem dJ6_ensureCapacity_38 : decode cJ6_ensureCapacity 38 = .ok (.return_, 1) := dk_177 (dk_at dksJ6_ensureCapacity_1 15 rfl rfl)
theorem q127 : (Jvm.Cond.initialized "java/util/BitSet") ∈ lw_all := lw_g (lw_at lw_m1 10 rfl) rfl
theorem q271 : (Jvm.Cond.instantiable "java/util/BitSet" (3 : Nat)) ∈ lw_all := lw_g (lw_at lw_m1 154 rfl) rfl
theorem q273 : (Jvm.Cond.instanceMethod ({ cls := "java/util/BitSet", name := "<init>", desc := "(I)V" } : Jvm.MethodName)) ∈ lw_all := lw_g (lw_at lw_m1 156 rfl) rfl
theorem q274 : (Jvm.Cond.code ({ cls := "java/util/BitSet", name := "<init>", desc := "(I)V" } : Jvm.MethodName) prog_42_method_5_code (2 : Nat) (Option.none : Option Jvm.ClassFile.FieldType)) ∈ lw_all := lw_g (lw_at lw_m1 157 rfl) rfl
theorem q275 : (Jvm.Cond.methodLink "java/util/BitSet" (21 : Nat) ({ cls := "java/lang/Object", name := "<init>", desc := "()V" } : Jvm.MethodName)) ∈ lw_all := lw_g (lw_at lw_m1 158 rfl) rfl
theorem q276 : (Jvm.Cond.methodLink "java/util/BitSet" (27 : Nat) ({ cls := "java/util/BitSet", name := "initWords", desc := "(I)V" } : Jvm.MethodName)) ∈ lw_all := lw_g (lw_at lw_m1 159 rfl) rfl
theorem q277 : (Jvm.Cond.privateMethod ({ cls := "java/util/BitSet", name := "initWords", desc := "(I)V" } : Jvm.MethodName)) ∈ lw_tbl := lw_at lw_m1 160 rfl
theorem q278 : (Jvm.Cond.instanceMethod ({ cls := "java/util/BitSet", name := "initWords", desc := "(I)V" } : Jvm.MethodName)) ∈ lw_all := lw_g (lw_at lw_m1 161 rfl) rfl
theorem q279 : (Jvm.Cond.code ({ cls := "java/util/BitSet", name := "initWords", desc := "(I)V" } : Jvm.MethodName) prog_42_method_6_code (2 : Nat) (Option.none : Option Jvm.ClassFile.FieldType)) ∈ lw_all := lw_g (lw_at lw_m1 162 rfl) rfl
theorem q280 : (Jvm.Cond.methodLink "java/util/BitSet" (52 : Nat) ({ cls := "java/util/BitSet", name := "wordIndex", desc := "(I)I" } : Jvm.MethodName)) ∈ lw_all := lw_g (lw_at lw_m1 163 rfl) rfl
theorem q281 : (Jvm.Cond.static ({ cls := "java/util/BitSet", name := "wordIndex", desc := "(I)I" } : Jvm.MethodName)) ∈ lw_all := lw_g (lw_at lw_m1 164 rfl) rfl
theorem q282 : (Jvm.Cond.code ({ cls := "java/util/BitSet", name := "wordIndex", desc := "(I)I" } : Jvm.MethodName) prog_42_method_1_code (1 : Nat) (Option.some Jvm.ClassFile.FieldType.int)) ∈ lw_all := lw_g (lw_at lw_m1 165 rfl) rfl
theorem q283 : (Jvm.Cond.fieldLink "java/util/BitSet" (11 : Nat) "java/util/BitSet" "words" "[J") ∈ lw_all := lw_g (lw_at lw_m1 166 rfl) rfl
theorem q284 : (Jvm.Cond.fieldLink "java/util/BitSet" (7 : Nat) "java/util/BitSet" "wordsInUse" "I") ∈ lw_all := lw_g (lw_at lw_m1 167 rfl) rfl
theorem q285 : (Jvm.Cond.fieldLink "java/util/BitSet" (24 : Nat) "java/util/BitSet" "sizeIsSticky" "Z") ∈ lw_all := lw_g (lw_at lw_m1 168 rfl) rfl
theorem q286 : (Jvm.Cond.lays "java/util/BitSet" "java/util/BitSet" "words" "[J") ∈ lw_all := lw_g (lw_at lw_m1 169 rfl) rfl
theorem q287 : (Jvm.Cond.soleField "java/util/BitSet" "words") ∈ lw_all := lw_g (lw_at lw_m1 170 rfl) rfl
theorem q288 : (Jvm.Cond.lays "java/util/BitSet" "java/util/BitSet" "wordsInUse" "I") ∈ lw_all := lw_g (lw_at lw_m1 171 rfl) rfl
theorem q289 : (Jvm.Cond.soleField "java/util/BitSet" "wordsInUse") ∈ lw_all := lw_g (lw_at lw_m1 172 rfl) rfl
theorem q290 : (Jvm.Cond.lays "java/util/BitSet" "java/util/BitSet" "sizeIsSticky" "Z") ∈ lw_all := lw_g (lw_at lw_m1 173 rfl) rfl
theorem q291 : (Jvm.Cond.soleField "java/util/BitSet" "sizeIsSticky") ∈ lw_all := lw_g (lw_at lw_m1 174 rfl) rfl
theorem q292 : (Jvm.Cond.superclass "java/util/BitSet" "java/lang/Object") ∈ lw_all := lw_g (lw_at lw_m1 175 rfl) rfl
theorem q909 : (Jvm.Cond.instanceMethod ({ cls := "java/util/BitSet", name := "clear", desc := "()V" } : Jvm.MethodName)) ∈ lw_all := lw_g (lw_at lw_m4 72 rfl) rfl
theorem q910 : (Jvm.Cond.selects "java/util/BitSet" ({ cls := "java/util/BitSet", name := "clear", desc := "()V" } : Jvm.MethodName) ({ cls := "java/util/BitSet", name := "clear", desc := "()V" } : Jvm.MethodName)) ∈ lw_all := lw_g (lw_at lw_m4 73 rfl) rfl
theorem q911 : (Jvm.Cond.code ({ cls := "java/util/BitSet", name := "clear", desc := "()V" } : Jvm.MethodName) prog_42_method_25_code (1 : Nat) (Option.none : Option Jvm.ClassFile.FieldType)) ∈ lw_all := lw_g (lw_at lw_m4 74 rfl) rfl
theorem q925 : (Jvm.Cond.instanceMethod ({ cls := "java/util/BitSet", name := "nextSetBit", desc := "(I)I" } : Jvm.MethodName)) ∈ lw_all := lw_g (lw_at lw_m4 88 rfl) rfl
theorem q926 : (Jvm.Cond.selects "java/util/BitSet" ({ cls := "java/util/BitSet", name := "nextSetBit", desc := "(I)I" } : Jvm.MethodName) ({ cls := "java/util/BitSet", name := "nextSetBit", desc := "(I)I" } : Jvm.MethodName)) ∈ lw_all := lw_g (lw_at lw_m4 89 rfl) rfl
theorem q927 : (Jvm.Cond.code ({ cls := "java/util/BitSet", name := "nextSetBit", desc := "(I)I" } : Jvm.MethodName) prog_42_method_28_code (5 : Nat) (Option.some Jvm.ClassFile.FieldType.int)) ∈ lw_all := lw_g (lw_at lw_m4 90 rfl) rfl
theorem q928 : (Jvm.Cond.methodLink "java/util/BitSet" (56 : Nat) ({ cls := "java/util/BitSet", name := "checkInvariants", desc := "()V" } : Jvm.MethodName)) ∈ lw_all := lw_g (lw_at lw_m4 91 rfl) rfl
theorem q929 : (Jvm.Cond.privateMethod ({ cls := "java/util/BitSet", name := "checkInvariants", desc := "()V" } : Jvm.MethodName)) ∈ lw_tbl := lw_at lw_m4 92 rfl
theorem q930 : (Jvm.Cond.instanceMethod ({ cls := "java/util/BitSet", name := "checkInvariants", desc := "()V" } : Jvm.MethodName)) ∈ lw_all := lw_g (lw_at lw_m4 93 rfl) rfl
theorem q931 : (Jvm.Cond.code ({ cls := "java/util/BitSet", name := "checkInvariants", desc := "()V" } : Jvm.MethodName) prog_42_method_2_code (1 : Nat) (Option.none : Option Jvm.ClassFile.FieldType)) ∈ lw_all := lw_g (lw_at lw_m4 94 rfl) rfl
theorem q932 : (Jvm.Cond.fieldLink "java/util/BitSet" (3 : Nat) "java/util/BitSet" "$assertionsDisabled" "Z") ∈ lw_all := lw_g (lw_at lw_m4 95 rfl) rfl
theorem q933 : (Jvm.Cond.laysStatic "java/util/BitSet" "$assertionsDisabled" "Z") ∈ lw_tbl := lw_at lw_m4 96 rfl
theorem q934 : (Jvm.Cond.constantLong "java/util/BitSet" (165 : Nat) (-1 : Int64)) ∈ lw_all := lw_g (lw_at lw_m4 97 rfl) rfl
theorem q935 : (Jvm.Cond.methodLink "java/util/BitSet" (182 : Nat) ({ cls := "java/lang/Long", name := "numberOfTrailingZeros", desc := "(J)I" } : Jvm.MethodName)) ∈ lw_all := lw_g (lw_at lw_m4 98 rfl) rfl
theorem q949 : (Jvm.Cond.instanceMethod ({ cls := "java/util/BitSet", name := "clear", desc := "(I)V" } : Jvm.MethodName)) ∈ lw_all := lw_g (lw_at lw_m4 112 rfl) rfl
theorem q950 : (Jvm.Cond.selects "java/util/BitSet" ({ cls := "java/util/BitSet", name := "clear", desc := "(I)V" } : Jvm.MethodName) ({ cls := "java/util/BitSet", name := "clear", desc := "(I)V" } : Jvm.MethodName)) ∈ lw_all := lw_g (lw_at lw_m4 113 rfl) rfl
theorem q951 : (Jvm.Cond.code ({ cls := "java/util/BitSet", name := "clear", desc := "(I)V" } : Jvm.MethodName) prog_42_method_23_code (3 : Nat) (Option.none : Option Jvm.ClassFile.FieldType)) ∈ lw_all := lw_g (lw_at lw_m4 114 rfl) rfl
theorem q952 : (Jvm.Cond.methodLink "java/util/BitSet" (158 : Nat) ({ cls := "java/util/BitSet", name := "recalculateWordsInUse", desc := "()V" } : Jvm.MethodName)) ∈ lw_all := lw_g (lw_at lw_m4 115 rfl) rfl
theorem q953 : (Jvm.Cond.privateMethod ({ cls := "java/util/BitSet", name := "recalculateWordsInUse", desc := "()V" } : Jvm.MethodName)) ∈ lw_tbl := lw_at lw_m4 116 rfl
theorem q954 : (Jvm.Cond.instanceMethod ({ cls := "java/util/BitSet", name := "recalculateWordsInUse", desc := "()V" } : Jvm.MethodName)) ∈ lw_all := lw_g (lw_at lw_m4 117 rfl) rfl
theorem q955 : (Jvm.Cond.code ({ cls := "java/util/BitSet", name := "recalculateWordsInUse", desc := "()V" } : Jvm.MethodName) prog_42_method_3_code (2 : Nat) (Option.none : Option Jvm.ClassFile.FieldType)) ∈ lw_all := lw_g (lw_at lw_m4 118 rfl) rfl
theorem q957 : (Jvm.Cond.instanceMethod ({ cls := "java/util/BitSet", name := "set", desc := "(I)V" } : Jvm.MethodName)) ∈ lw_all := lw_g (lw_at lw_m4 120 rfl) rfl
theorem q958 : (Jvm.Cond.selects "java/util/BitSet" ({ cls := "java/util/BitSet", name := "set", desc := "(I)V" } : Jvm.MethodName) ({ cls := "java/util/BitSet", name := "set", desc := "(I)V" } : Jvm.MethodName)) ∈ lw_all := lw_g (lw_at lw_m4 121 rfl) rfl
theorem q959 : (Jvm.Cond.code ({ cls := "java/util/BitSet", name := "set", desc := "(I)V" } : Jvm.MethodName) prog_42_method_19_code (3 : Nat) (Option.none : Option Jvm.ClassFile.FieldType)) ∈ lw_all := lw_g (lw_at lw_m4 122 rfl) rfl
theorem q960 : (Jvm.Cond.methodLink "java/util/BitSet" (155 : Nat) ({ cls := "java/util/BitSet", name := "expandTo", desc := "(I)V" } : Jvm.MethodName)) ∈ lw_all := lw_g (lw_at lw_m4 123 rfl) rfl
theorem q961 : (Jvm.Cond.privateMethod ({ cls := "java/util/BitSet", name := "expandTo", desc := "(I)V" } : Jvm.MethodName)) ∈ lw_tbl := lw_at lw_m4 124 rfl
theorem q962 : (Jvm.Cond.instanceMethod ({ cls := "java/util/BitSet", name := "expandTo", desc := "(I)V" } : Jvm.MethodName)) ∈ lw_all := lw_g (lw_at lw_m4 125 rfl) rfl
theorem q963 : (Jvm.Cond.code ({ cls := "java/util/BitSet", name := "expandTo", desc := "(I)V" } : Jvm.MethodName) prog_42_method_15_code (3 : Nat) (Option.none : Option Jvm.ClassFile.FieldType)) ∈ lw_all := lw_g (lw_at lw_m4 126 rfl) rfl
theorem q964 : (Jvm.Cond.methodLink "java/util/BitSet" (139 : Nat) ({ cls := "java/util/BitSet", name := "ensureCapacity", desc := "(I)V" } : Jvm.MethodName)) ∈ lw_all := lw_g (lw_at lw_m4 127 rfl) rfl
theorem q965 : (Jvm.Cond.privateMethod ({ cls := "java/util/BitSet", name := "ensureCapacity", desc := "(I)V" } : Jvm.MethodName)) ∈ lw_tbl := lw_at lw_m4 128 rfl
theorem q966 : (Jvm.Cond.instanceMethod ({ cls := "java/util/BitSet", name := "ensureCapacity", desc := "(I)V" } : Jvm.MethodName)) ∈ lw_all := lw_g (lw_at lw_m4 129 rfl) rfl
theorem q967 : (Jvm.Cond.code ({ cls := "java/util/BitSet", name := "ensureCapacity", desc := "(I)V" } : Jvm.MethodName) prog_42_method_14_code (3 : Nat) (Option.none : Option Jvm.ClassFile.FieldType)) ∈ lw_all := lw_g (lw_at lw_m4 130 rfl) rfl
theorem q968 : (Jvm.Cond.methodLink "java/util/BitSet" (133 : Nat) ({ cls := "java/lang/Math", name := "max", desc := "(II)I" } : Jvm.MethodName)) ∈ lw_all := lw_g (lw_at lw_m4 131 rfl) rfl
theorem q969 : (Jvm.Cond.methodLink "java/util/BitSet" (59 : Nat) ({ cls := "java/util/Arrays", name := "copyOf", desc := "([JI)[J" } : Jvm.MethodName)) ∈ lw_all := lw_g (lw_at lw_m4 132 rfl) rfl
theorem q1182 : (Jvm.Cond.selects "java/util/BitSet" ({ cls := "java/lang/Object", name := "getClass", desc := "()Ljava/lang/Class;" } : Jvm.MethodName) ({ cls := "java/lang/Object", name := "getClass", desc := "()Ljava/lang/Class;" } : Jvm.MethodName)) ∈ lw_all := lw_g (lw_at lw_m5 105 rfl) rfl
theorem q2345 : (Jvm.Cond.castable "java/util/BitSet" "java/lang/Object") ∈ lw_tbl := lw_at lw_m10 68 rfl
theorem in_J6 : ∀ w ∈ wsJ60, w ∈ lw_all := lw_in wsJ60 [286, 288, 290] (by decide +kernel) (by decide +kernel)
/-! java/util/ArrayDeque -/
set_option maxRecDepth 100000
def RJ7 : String := "java/util/ArrayDeque"
def TJ7 : u_T := fun k => match k with
  | 0 => ("java/util/ArrayDeque", "elements", "[Ljava/lang/Object;", false)
  | 1 => ("java/util/ArrayDeque", "head", "I", false)
  | _ => ("java/util/ArrayDeque", "tail", "I", false)
def tyJ7 : Nat → FieldType := fun k => match k with
  | 0 => .array (.object "java/lang/Object")
  | 1 => .int
  | _ => .int
abbrev wsJ70 : List Cond := u_ws RJ7 TJ7 3
theorem nmJ7 : ∀ a, a < 3 → ∀ b, b < 3 → a ≠ b → (TJ7 a).2.1 ≠ (TJ7 b).2.1 := by decide +kernel
theorem tyJ7_ok : ∀ k, k < 3 → parseFieldDescriptor (TJ7 k).2.2.1 = some (tyJ7 k) := by decide +kernel
abbrev cJ7_init : ByteArray := prog_39_method_3_code
def yJ7_init : MethodName := ⟨RJ7, "<init>", "()V"⟩
def dkwJ7_init_0 : List UInt8 := [42, 183, 0, 42, 42, 16, 17, 189, 0, 47, 181, 0, 3, 177]
abbrev dktJ7_init_0 : List UInt8 := dkwJ7_init_0 ++ []
theorem dksJ7_init_0 : cJ7_init.data.toList.drop 0 = dktJ7_init_0 := by decide +kernel
theorem dJ7_init_0 : decode cJ7_init 0 = .ok (.aload_n 0, 1) := dk_42 (dk_at dksJ7_init_0 0 rfl rfl)
theorem dJ7_init_1 : decode cJ7_init 1 = .ok (.invokespecial 42, 3) := dk_183 0 42 (dk_at dksJ7_init_0 1 rfl rfl)
theorem dJ7_init_4 : decode cJ7_init 4 = .ok (.aload_n 0, 1) := dk_42 (dk_at dksJ7_init_0 4 rfl rfl)
theorem dJ7_init_5 : decode cJ7_init 5 = .ok (.bipush 17, 2) := dk_16 17 (dk_at dksJ7_init_0 5 rfl rfl)
theorem dJ7_init_7 : decode cJ7_init 7 = .ok (.anewarray 47, 3) := dk_189 0 47 (dk_at dksJ7_init_0 7 rfl rfl)
theorem dJ7_init_10 : decode cJ7_init 10 = .ok (.putfield 3, 3) := dk_181 0 3 (dk_at dksJ7_init_0 10 rfl rfl)
theorem dJ7_init_13 : decode cJ7_init 13 = .ok (.return_, 1) := dk_177 (dk_at dksJ7_init_0 13 rfl rfl)
abbrev cJ7_size : ByteArray := prog_39_method_37_code
def yJ7_size : MethodName := ⟨RJ7, "size", "()I"⟩
def dkwJ7_size_0 : List UInt8 := [42, 180, 0, 20, 42, 180, 0, 24, 42, 180, 0, 3, 190, 184, 0, 127, 172]
abbrev dktJ7_size_0 : List UInt8 := dkwJ7_size_0 ++ []
theorem dksJ7_size_0 : cJ7_size.data.toList.drop 0 = dktJ7_size_0 := by decide +kernel
theorem dJ7_size_0 : decode cJ7_size 0 = .ok (.aload_n 0, 1) := dk_42 (dk_at dksJ7_size_0 0 rfl rfl)
theorem dJ7_size_1 : decode cJ7_size 1 = .ok (.getfield 20, 3) := dk_180 0 20 (dk_at dksJ7_size_0 1 rfl rfl)
theorem dJ7_size_4 : decode cJ7_size 4 = .ok (.aload_n 0, 1) := dk_42 (dk_at dksJ7_size_0 4 rfl rfl)
theorem dJ7_size_5 : decode cJ7_size 5 = .ok (.getfield 24, 3) := dk_180 0 24 (dk_at dksJ7_size_0 5 rfl rfl)
theorem dJ7_size_8 : decode cJ7_size 8 = .ok (.aload_n 0, 1) := dk_42 (dk_at dksJ7_size_0 8 rfl rfl)
theorem dJ7_size_9 : decode cJ7_size 9 = .ok (.getfield 3, 3) := dk_180 0 3 (dk_at dksJ7_size_0 9 rfl rfl)
theorem dJ7_size_12 : decode cJ7_size 12 = .ok (.arraylength, 1) := dk_190 (dk_at dksJ7_size_0 12 rfl rfl)
theorem dJ7_size_13 : decode cJ7_size 13 = .ok (.invokestatic 127, 3) := dk_184 0 127 (dk_at dksJ7_size_0 13 rfl rfl)
theorem dJ7_size_16 : decode cJ7_size 16 = .ok (.ireturn, 1) := dk_172 (dk_at dksJ7_size_0 16 rfl rfl)
abbrev cJ7_sub : ByteArray := prog_39_method_9_code
def yJ7_sub : MethodName := ⟨RJ7, "sub", "(III)I"⟩
def dkwJ7_sub_0 : List UInt8 := [26, 27, 100, 89, 59, 156, 0, 7, 26, 28, 96, 59, 26, 172]
abbrev dktJ7_sub_0 : List UInt8 := dkwJ7_sub_0 ++ []
theorem dksJ7_sub_0 : cJ7_sub.data.toList.drop 0 = dktJ7_sub_0 := by decide +kernel
theorem dJ7_sub_0 : decode cJ7_sub 0 = .ok (.iload_n 0, 1) := dk_26 (dk_at dksJ7_sub_0 0 rfl rfl)
theorem dJ7_sub_1 : decode cJ7_sub 1 = .ok (.iload_n 1, 1) := dk_27 (dk_at dksJ7_sub_0 1 rfl rfl)
theorem dJ7_sub_2 : decode cJ7_sub 2 = .ok (.isub, 1) := dk_100 (dk_at dksJ7_sub_0 2 rfl rfl)
theorem dJ7_sub_3 : decode cJ7_sub 3 = .ok (.dup, 1) := dk_89 (dk_at dksJ7_sub_0 3 rfl rfl)
theorem dJ7_sub_4 : decode cJ7_sub 4 = .ok (.istore_n 0, 1) := dk_59 (dk_at dksJ7_sub_0 4 rfl rfl)
theorem dJ7_sub_5 : decode cJ7_sub 5 = .ok (.ifCond .ge 7, 3) := dk_156 0 7 (dk_at dksJ7_sub_0 5 rfl rfl)
theorem dJ7_sub_8 : decode cJ7_sub 8 = .ok (.iload_n 0, 1) := dk_26 (dk_at dksJ7_sub_0 8 rfl rfl)
theorem dJ7_sub_9 : decode cJ7_sub 9 = .ok (.iload_n 2, 1) := dk_28 (dk_at dksJ7_sub_0 9 rfl rfl)
theorem dJ7_sub_10 : decode cJ7_sub 10 = .ok (.iadd, 1) := dk_96 (dk_at dksJ7_sub_0 10 rfl rfl)
theorem dJ7_sub_11 : decode cJ7_sub 11 = .ok (.istore_n 0, 1) := dk_59 (dk_at dksJ7_sub_0 11 rfl rfl)
theorem dJ7_sub_12 : decode cJ7_sub 12 = .ok (.iload_n 0, 1) := dk_26 (dk_at dksJ7_sub_0 12 rfl rfl)
theorem dJ7_sub_13 : decode cJ7_sub 13 = .ok (.ireturn, 1) := dk_172 (dk_at dksJ7_sub_0 13 rfl rfl)
abbrev cJ7_addLast : ByteArray := prog_39_method_13_code
def yJ7_addLast : MethodName := ⟨RJ7, "addLast", "(Ljava/lang/Object;)V"⟩
def dkwJ7_addLast_2 : List UInt8 := [182, 0, 71, 177]
abbrev dktJ7_addLast_2 : List UInt8 := dkwJ7_addLast_2 ++ []
def dkwJ7_addLast_1 : List UInt8 := [42, 180, 0, 24, 42, 42, 180, 0, 20, 44, 190, 184, 0, 74, 90, 181, 0, 20, 160, 0, 8, 42, 4]
abbrev dktJ7_addLast_1 : List UInt8 := dkwJ7_addLast_1 ++ dktJ7_addLast_2
def dkwJ7_addLast_0 : List UInt8 := [43, 199, 0, 11, 187, 0, 65, 89, 183, 0, 67, 191, 42, 180, 0, 3, 77, 44, 42, 180, 0, 20, 43, 83]
abbrev dktJ7_addLast_0 : List UInt8 := dkwJ7_addLast_0 ++ dktJ7_addLast_1
theorem dksJ7_addLast_0 : cJ7_addLast.data.toList.drop 0 = dktJ7_addLast_0 := by decide +kernel
theorem dksJ7_addLast_1 : cJ7_addLast.data.toList.drop 24 = dktJ7_addLast_1 := dk_seg dksJ7_addLast_0 24 rfl rfl
theorem dksJ7_addLast_2 : cJ7_addLast.data.toList.drop 47 = dktJ7_addLast_2 := dk_seg dksJ7_addLast_1 23 rfl rfl
theorem dJ7_addLast_0 : decode cJ7_addLast 0 = .ok (.aload_n 1, 1) := dk_43 (dk_at dksJ7_addLast_0 0 rfl rfl)
theorem dJ7_addLast_1 : decode cJ7_addLast 1 = .ok (.ifnonnull 11, 3) := dk_199 0 11 (dk_at dksJ7_addLast_0 1 rfl rfl)
theorem dJ7_addLast_4 : decode cJ7_addLast 4 = .ok (.new 65, 3) := dk_187 0 65 (dk_at dksJ7_addLast_0 4 rfl rfl)
theorem dJ7_addLast_7 : decode cJ7_addLast 7 = .ok (.dup, 1) := dk_89 (dk_at dksJ7_addLast_0 7 rfl rfl)
theorem dJ7_addLast_8 : decode cJ7_addLast 8 = .ok (.invokespecial 67, 3) := dk_183 0 67 (dk_at dksJ7_addLast_0 8 rfl rfl)
theorem dJ7_addLast_11 : decode cJ7_addLast 11 = .ok (.athrow, 1) := dk_191 (dk_at dksJ7_addLast_0 11 rfl rfl)
theorem dJ7_addLast_12 : decode cJ7_addLast 12 = .ok (.aload_n 0, 1) := dk_42 (dk_at dksJ7_addLast_0 12 rfl rfl)
theorem dJ7_addLast_13 : decode cJ7_addLast 13 = .ok (.getfield 3, 3) := dk_180 0 3 (dk_at dksJ7_addLast_0 13 rfl rfl)
theorem dJ7_addLast_16 : decode cJ7_addLast 16 = .ok (.astore_n 2, 1) := dk_77 (dk_at dksJ7_addLast_0 16 rfl rfl)
theorem dJ7_addLast_17 : decode cJ7_addLast 17 = .ok (.aload_n 2, 1) := dk_44 (dk_at dksJ7_addLast_0 17 rfl rfl)
theorem dJ7_addLast_18 : decode cJ7_addLast 18 = .ok (.aload_n 0, 1) := dk_42 (dk_at dksJ7_addLast_0 18 rfl rfl)
theorem dJ7_addLast_19 : decode cJ7_addLast 19 = .ok (.getfield 20, 3) := dk_180 0 20 (dk_at dksJ7_addLast_0 19 rfl rfl)
theorem dJ7_addLast_22 : decode cJ7_addLast 22 = .ok (.aload_n 1, 1) := dk_43 (dk_at dksJ7_addLast_0 22 rfl rfl)
theorem dJ7_addLast_23 : decode cJ7_addLast 23 = .ok (.aastore, 1) := dk_83 (dk_at dksJ7_addLast_0 23 rfl rfl)
theorem dJ7_addLast_24 : decode cJ7_addLast 24 = .ok (.aload_n 0, 1) := dk_42 (dk_at dksJ7_addLast_1 0 rfl rfl)
theorem dJ7_addLast_25 : decode cJ7_addLast 25 = .ok (.getfield 24, 3) := dk_180 0 24 (dk_at dksJ7_addLast_1 1 rfl rfl)
theorem dJ7_addLast_28 : decode cJ7_addLast 28 = .ok (.aload_n 0, 1) := dk_42 (dk_at dksJ7_addLast_1 4 rfl rfl)
theorem dJ7_addLast_29 : decode cJ7_addLast 29 = .ok (.aload_n 0, 1) := dk_42 (dk_at dksJ7_addLast_1 5 rfl rfl)
theorem dJ7_addLast_30 : decode cJ7_addLast 30 = .ok (.getfield 20, 3) := dk_180 0 20 (dk_at dksJ7_addLast_1 6 rfl rfl)
theorem dJ7_addLast_33 : decode cJ7_addLast 33 = .ok (.aload_n 2, 1) := dk_44 (dk_at dksJ7_addLast_1 9 rfl rfl)
theorem dJ7_addLast_34 : decode cJ7_addLast 34 = .ok (.arraylength, 1) := dk_190 (dk_at dksJ7_addLast_1 10 rfl rfl)
theorem dJ7_addLast_35 : decode cJ7_addLast 35 = .ok (.invokestatic 74, 3) := dk_184 0 74 (dk_at dksJ7_addLast_1 11 rfl rfl)
theorem dJ7_addLast_38 : decode cJ7_addLast 38 = .ok (.dup_x1, 1) := dk_90 (dk_at dksJ7_addLast_1 14 rfl rfl)
theorem dJ7_addLast_39 : decode cJ7_addLast 39 = .ok (.putfield 20, 3) := dk_181 0 20 (dk_at dksJ7_addLast_1 15 rfl rfl)
theorem dJ7_addLast_42 : decode cJ7_addLast 42 = .ok (.if_icmp .ne 8, 3) := dk_160 0 8 (dk_at dksJ7_addLast_1 18 rfl rfl)
theorem dJ7_addLast_45 : decode cJ7_addLast 45 = .ok (.aload_n 0, 1) := dk_42 (dk_at dksJ7_addLast_1 21 rfl rfl)
theorem dJ7_addLast_46 : decode cJ7_addLast 46 = .ok (.iconst 1, 1) := dk_4 (dk_at dksJ7_addLast_1 22 rfl rfl)
theorem dJ7_addLast_47 : decode cJ7_addLast 47 = .ok (.invokevirtual 71, 3) := dk_182 0 71 (dk_at dksJ7_addLast_2 0 rfl rfl)
theorem dJ7_addLast_50 : decode cJ7_addLast 50 = .ok (.return_, 1) := dk_177 (dk_at dksJ7_addLast_2 3 rfl rfl)
abbrev cJ7_inc : ByteArray := prog_39_method_6_code
def yJ7_inc : MethodName := ⟨RJ7, "inc", "(II)I"⟩
def dkwJ7_inc_0 : List UInt8 := [132, 0, 1, 26, 27, 161, 0, 5, 3, 59, 26, 172]
abbrev dktJ7_inc_0 : List UInt8 := dkwJ7_inc_0 ++ []
theorem dksJ7_inc_0 : cJ7_inc.data.toList.drop 0 = dktJ7_inc_0 := by decide +kernel
theorem dJ7_inc_0 : decode cJ7_inc 0 = .ok (.iinc 0 1, 3) := dk_132 0 1 (dk_at dksJ7_inc_0 0 rfl rfl)
theorem dJ7_inc_3 : decode cJ7_inc 3 = .ok (.iload_n 0, 1) := dk_26 (dk_at dksJ7_inc_0 3 rfl rfl)
theorem dJ7_inc_4 : decode cJ7_inc 4 = .ok (.iload_n 1, 1) := dk_27 (dk_at dksJ7_inc_0 4 rfl rfl)
theorem dJ7_inc_5 : decode cJ7_inc 5 = .ok (.if_icmp .lt 5, 3) := dk_161 0 5 (dk_at dksJ7_inc_0 5 rfl rfl)
theorem dJ7_inc_8 : decode cJ7_inc 8 = .ok (.iconst 0, 1) := dk_3 (dk_at dksJ7_inc_0 8 rfl rfl)
theorem dJ7_inc_9 : decode cJ7_inc 9 = .ok (.istore_n 0, 1) := dk_59 (dk_at dksJ7_inc_0 9 rfl rfl)
theorem dJ7_inc_10 : decode cJ7_inc 10 = .ok (.iload_n 0, 1) := dk_26 (dk_at dksJ7_inc_0 10 rfl rfl)
theorem dJ7_inc_11 : decode cJ7_inc 11 = .ok (.ireturn, 1) := dk_172 (dk_at dksJ7_inc_0 11 rfl rfl)
abbrev cJ7_grow : ByteArray := prog_39_method_1_code
def yJ7_grow : MethodName := ⟨RJ7, "grow", "(I)V"⟩
def dkwJ7_grow_7 : List UInt8 := [177]
abbrev dktJ7_grow_7 : List UInt8 := dkwJ7_grow_7 ++ []
def dkwJ7_grow_6 : List UInt8 := [181, 0, 24, 54, 8, 21, 7, 21, 8, 162, 0, 15, 25, 5, 21, 7, 1, 83, 132, 7, 1, 167, 255, 240]
abbrev dktJ7_grow_6 : List UInt8 := dkwJ7_grow_6 ++ dktJ7_grow_7
def dkwJ7_grow_5 : List UInt8 := [42, 180, 0, 24, 100, 184, 0, 27, 42, 180, 0, 24, 54, 7, 42, 89, 180, 0, 24, 21, 6, 96, 90]
abbrev dktJ7_grow_5 : List UInt8 := dkwJ7_grow_5 ++ dktJ7_grow_6
def dkwJ7_grow_4 : List UInt8 := [198, 0, 71, 29, 28, 100, 54, 6, 25, 5, 42, 180, 0, 24, 25, 5, 42, 180, 0, 24, 21, 6, 96, 28]
abbrev dktJ7_grow_4 : List UInt8 := dkwJ7_grow_4 ++ dktJ7_grow_5
def dkwJ7_grow_3 : List UInt8 := [180, 0, 24, 161, 0, 24, 42, 180, 0, 20, 42, 180, 0, 24, 160, 0, 81, 25, 5, 42, 180, 0, 24, 50]
abbrev dktJ7_grow_3 : List UInt8 := dkwJ7_grow_3 ++ dktJ7_grow_4
def dkwJ7_grow_2 : List UInt8 := [182, 0, 10, 62, 42, 42, 180, 0, 3, 29, 184, 0, 14, 90, 181, 0, 3, 58, 5, 42, 180, 0, 20, 42]
abbrev dktJ7_grow_2 : List UInt8 := dkwJ7_grow_2 ++ dktJ7_grow_3
def dkwJ7_grow_1 : List UInt8 := [21, 4, 27, 161, 0, 15, 28, 21, 4, 96, 89, 62, 18, 9, 100, 158, 0, 11, 42, 27, 21, 4]
abbrev dktJ7_grow_1 : List UInt8 := dkwJ7_grow_1 ++ dktJ7_grow_2
def dkwJ7_grow_0 : List UInt8 := [42, 180, 0, 3, 190, 61, 28, 16, 64, 162, 0, 9, 28, 5, 96, 167, 0, 6, 28, 4, 122, 54, 4]
abbrev dktJ7_grow_0 : List UInt8 := dkwJ7_grow_0 ++ dktJ7_grow_1
theorem dksJ7_grow_0 : cJ7_grow.data.toList.drop 0 = dktJ7_grow_0 := by decide +kernel
theorem dksJ7_grow_1 : cJ7_grow.data.toList.drop 23 = dktJ7_grow_1 := dk_seg dksJ7_grow_0 23 rfl rfl
theorem dksJ7_grow_2 : cJ7_grow.data.toList.drop 45 = dktJ7_grow_2 := dk_seg dksJ7_grow_1 22 rfl rfl
theorem dksJ7_grow_3 : cJ7_grow.data.toList.drop 69 = dktJ7_grow_3 := dk_seg dksJ7_grow_2 24 rfl rfl
theorem dksJ7_grow_4 : cJ7_grow.data.toList.drop 93 = dktJ7_grow_4 := dk_seg dksJ7_grow_3 24 rfl rfl
theorem dksJ7_grow_5 : cJ7_grow.data.toList.drop 117 = dktJ7_grow_5 := dk_seg dksJ7_grow_4 24 rfl rfl
theorem dksJ7_grow_6 : cJ7_grow.data.toList.drop 140 = dktJ7_grow_6 := dk_seg dksJ7_grow_5 23 rfl rfl
theorem dksJ7_grow_7 : cJ7_grow.data.toList.drop 164 = dktJ7_grow_7 := dk_seg dksJ7_grow_6 24 rfl rfl
theorem dJ7_grow_0 : decode cJ7_grow 0 = .ok (.aload_n 0, 1) := dk_42 (dk_at dksJ7_grow_0 0 rfl rfl)
theorem dJ7_grow_1 : decode cJ7_grow 1 = .ok (.getfield 3, 3) := dk_180 0 3 (dk_at dksJ7_grow_0 1 rfl rfl)
theorem dJ7_grow_4 : decode cJ7_grow 4 = .ok (.arraylength, 1) := dk_190 (dk_at dksJ7_grow_0 4 rfl rfl)
theorem dJ7_grow_5 : decode cJ7_grow 5 = .ok (.istore_n 2, 1) := dk_61 (dk_at dksJ7_grow_0 5 rfl rfl)
theorem dJ7_grow_6 : decode cJ7_grow 6 = .ok (.iload_n 2, 1) := dk_28 (dk_at dksJ7_grow_0 6 rfl rfl)
theorem dJ7_grow_7 : decode cJ7_grow 7 = .ok (.bipush 64, 2) := dk_16 64 (dk_at dksJ7_grow_0 7 rfl rfl)
theorem dJ7_grow_9 : decode cJ7_grow 9 = .ok (.if_icmp .ge 9, 3) := dk_162 0 9 (dk_at dksJ7_grow_0 9 rfl rfl)
theorem dJ7_grow_12 : decode cJ7_grow 12 = .ok (.iload_n 2, 1) := dk_28 (dk_at dksJ7_grow_0 12 rfl rfl)
theorem dJ7_grow_13 : decode cJ7_grow 13 = .ok (.iconst 2, 1) := dk_5 (dk_at dksJ7_grow_0 13 rfl rfl)
theorem dJ7_grow_14 : decode cJ7_grow 14 = .ok (.iadd, 1) := dk_96 (dk_at dksJ7_grow_0 14 rfl rfl)
theorem dJ7_grow_15 : decode cJ7_grow 15 = .ok (.goto 6, 3) := dk_167 0 6 (dk_at dksJ7_grow_0 15 rfl rfl)
theorem dJ7_grow_18 : decode cJ7_grow 18 = .ok (.iload_n 2, 1) := dk_28 (dk_at dksJ7_grow_0 18 rfl rfl)
theorem dJ7_grow_19 : decode cJ7_grow 19 = .ok (.iconst 1, 1) := dk_4 (dk_at dksJ7_grow_0 19 rfl rfl)
theorem dJ7_grow_20 : decode cJ7_grow 20 = .ok (.ishr, 1) := dk_122 (dk_at dksJ7_grow_0 20 rfl rfl)
theorem dJ7_grow_21 : decode cJ7_grow 21 = .ok (.istore 4, 2) := dk_54 4 (dk_at dksJ7_grow_0 21 rfl rfl)
theorem dJ7_grow_23 : decode cJ7_grow 23 = .ok (.iload 4, 2) := dk_21 4 (dk_at dksJ7_grow_1 0 rfl rfl)
theorem dJ7_grow_25 : decode cJ7_grow 25 = .ok (.iload_n 1, 1) := dk_27 (dk_at dksJ7_grow_1 2 rfl rfl)
theorem dJ7_grow_26 : decode cJ7_grow 26 = .ok (.if_icmp .lt 15, 3) := dk_161 0 15 (dk_at dksJ7_grow_1 3 rfl rfl)
theorem dJ7_grow_29 : decode cJ7_grow 29 = .ok (.iload_n 2, 1) := dk_28 (dk_at dksJ7_grow_1 6 rfl rfl)
theorem dJ7_grow_30 : decode cJ7_grow 30 = .ok (.iload 4, 2) := dk_21 4 (dk_at dksJ7_grow_1 7 rfl rfl)
theorem dJ7_grow_32 : decode cJ7_grow 32 = .ok (.iadd, 1) := dk_96 (dk_at dksJ7_grow_1 9 rfl rfl)
theorem dJ7_grow_33 : decode cJ7_grow 33 = .ok (.dup, 1) := dk_89 (dk_at dksJ7_grow_1 10 rfl rfl)
theorem dJ7_grow_34 : decode cJ7_grow 34 = .ok (.istore_n 3, 1) := dk_62 (dk_at dksJ7_grow_1 11 rfl rfl)
theorem dJ7_grow_35 : decode cJ7_grow 35 = .ok (.ldc 9, 2) := dk_18 9 (dk_at dksJ7_grow_1 12 rfl rfl)
theorem dJ7_grow_37 : decode cJ7_grow 37 = .ok (.isub, 1) := dk_100 (dk_at dksJ7_grow_1 14 rfl rfl)
theorem dJ7_grow_38 : decode cJ7_grow 38 = .ok (.ifCond .le 11, 3) := dk_158 0 11 (dk_at dksJ7_grow_1 15 rfl rfl)
theorem dJ7_grow_41 : decode cJ7_grow 41 = .ok (.aload_n 0, 1) := dk_42 (dk_at dksJ7_grow_1 18 rfl rfl)
theorem dJ7_grow_42 : decode cJ7_grow 42 = .ok (.iload_n 1, 1) := dk_27 (dk_at dksJ7_grow_1 19 rfl rfl)
theorem dJ7_grow_43 : decode cJ7_grow 43 = .ok (.iload 4, 2) := dk_21 4 (dk_at dksJ7_grow_1 20 rfl rfl)
theorem dJ7_grow_45 : decode cJ7_grow 45 = .ok (.invokevirtual 10, 3) := dk_182 0 10 (dk_at dksJ7_grow_2 0 rfl rfl)
theorem dJ7_grow_48 : decode cJ7_grow 48 = .ok (.istore_n 3, 1) := dk_62 (dk_at dksJ7_grow_2 3 rfl rfl)
theorem dJ7_grow_49 : decode cJ7_grow 49 = .ok (.aload_n 0, 1) := dk_42 (dk_at dksJ7_grow_2 4 rfl rfl)
theorem dJ7_grow_50 : decode cJ7_grow 50 = .ok (.aload_n 0, 1) := dk_42 (dk_at dksJ7_grow_2 5 rfl rfl)
theorem dJ7_grow_51 : decode cJ7_grow 51 = .ok (.getfield 3, 3) := dk_180 0 3 (dk_at dksJ7_grow_2 6 rfl rfl)
theorem dJ7_grow_54 : decode cJ7_grow 54 = .ok (.iload_n 3, 1) := dk_29 (dk_at dksJ7_grow_2 9 rfl rfl)
theorem dJ7_grow_55 : decode cJ7_grow 55 = .ok (.invokestatic 14, 3) := dk_184 0 14 (dk_at dksJ7_grow_2 10 rfl rfl)
theorem dJ7_grow_58 : decode cJ7_grow 58 = .ok (.dup_x1, 1) := dk_90 (dk_at dksJ7_grow_2 13 rfl rfl)
theorem dJ7_grow_59 : decode cJ7_grow 59 = .ok (.putfield 3, 3) := dk_181 0 3 (dk_at dksJ7_grow_2 14 rfl rfl)
theorem dJ7_grow_62 : decode cJ7_grow 62 = .ok (.astore 5, 2) := dk_58 5 (dk_at dksJ7_grow_2 17 rfl rfl)
theorem dJ7_grow_64 : decode cJ7_grow 64 = .ok (.aload_n 0, 1) := dk_42 (dk_at dksJ7_grow_2 19 rfl rfl)
theorem dJ7_grow_65 : decode cJ7_grow 65 = .ok (.getfield 20, 3) := dk_180 0 20 (dk_at dksJ7_grow_2 20 rfl rfl)
theorem dJ7_grow_68 : decode cJ7_grow 68 = .ok (.aload_n 0, 1) := dk_42 (dk_at dksJ7_grow_2 23 rfl rfl)
theorem dJ7_grow_69 : decode cJ7_grow 69 = .ok (.getfield 24, 3) := dk_180 0 24 (dk_at dksJ7_grow_3 0 rfl rfl)
theorem dJ7_grow_72 : decode cJ7_grow 72 = .ok (.if_icmp .lt 24, 3) := dk_161 0 24 (dk_at dksJ7_grow_3 3 rfl rfl)
theorem dJ7_grow_75 : decode cJ7_grow 75 = .ok (.aload_n 0, 1) := dk_42 (dk_at dksJ7_grow_3 6 rfl rfl)
theorem dJ7_grow_76 : decode cJ7_grow 76 = .ok (.getfield 20, 3) := dk_180 0 20 (dk_at dksJ7_grow_3 7 rfl rfl)
theorem dJ7_grow_79 : decode cJ7_grow 79 = .ok (.aload_n 0, 1) := dk_42 (dk_at dksJ7_grow_3 10 rfl rfl)
theorem dJ7_grow_80 : decode cJ7_grow 80 = .ok (.getfield 24, 3) := dk_180 0 24 (dk_at dksJ7_grow_3 11 rfl rfl)
theorem dJ7_grow_83 : decode cJ7_grow 83 = .ok (.if_icmp .ne 81, 3) := dk_160 0 81 (dk_at dksJ7_grow_3 14 rfl rfl)
theorem dJ7_grow_86 : decode cJ7_grow 86 = .ok (.aload 5, 2) := dk_25 5 (dk_at dksJ7_grow_3 17 rfl rfl)
theorem dJ7_grow_88 : decode cJ7_grow 88 = .ok (.aload_n 0, 1) := dk_42 (dk_at dksJ7_grow_3 19 rfl rfl)
theorem dJ7_grow_89 : decode cJ7_grow 89 = .ok (.getfield 24, 3) := dk_180 0 24 (dk_at dksJ7_grow_3 20 rfl rfl)
theorem dJ7_grow_92 : decode cJ7_grow 92 = .ok (.aaload, 1) := dk_50 (dk_at dksJ7_grow_3 23 rfl rfl)
theorem dJ7_grow_93 : decode cJ7_grow 93 = .ok (.ifnull 71, 3) := dk_198 0 71 (dk_at dksJ7_grow_4 0 rfl rfl)
theorem dJ7_grow_96 : decode cJ7_grow 96 = .ok (.iload_n 3, 1) := dk_29 (dk_at dksJ7_grow_4 3 rfl rfl)
theorem dJ7_grow_97 : decode cJ7_grow 97 = .ok (.iload_n 2, 1) := dk_28 (dk_at dksJ7_grow_4 4 rfl rfl)
theorem dJ7_grow_98 : decode cJ7_grow 98 = .ok (.isub, 1) := dk_100 (dk_at dksJ7_grow_4 5 rfl rfl)
theorem dJ7_grow_99 : decode cJ7_grow 99 = .ok (.istore 6, 2) := dk_54 6 (dk_at dksJ7_grow_4 6 rfl rfl)
theorem dJ7_grow_101 : decode cJ7_grow 101 = .ok (.aload 5, 2) := dk_25 5 (dk_at dksJ7_grow_4 8 rfl rfl)
theorem dJ7_grow_103 : decode cJ7_grow 103 = .ok (.aload_n 0, 1) := dk_42 (dk_at dksJ7_grow_4 10 rfl rfl)
theorem dJ7_grow_104 : decode cJ7_grow 104 = .ok (.getfield 24, 3) := dk_180 0 24 (dk_at dksJ7_grow_4 11 rfl rfl)
theorem dJ7_grow_107 : decode cJ7_grow 107 = .ok (.aload 5, 2) := dk_25 5 (dk_at dksJ7_grow_4 14 rfl rfl)
theorem dJ7_grow_109 : decode cJ7_grow 109 = .ok (.aload_n 0, 1) := dk_42 (dk_at dksJ7_grow_4 16 rfl rfl)
theorem dJ7_grow_110 : decode cJ7_grow 110 = .ok (.getfield 24, 3) := dk_180 0 24 (dk_at dksJ7_grow_4 17 rfl rfl)
theorem dJ7_grow_113 : decode cJ7_grow 113 = .ok (.iload 6, 2) := dk_21 6 (dk_at dksJ7_grow_4 20 rfl rfl)
theorem dJ7_grow_115 : decode cJ7_grow 115 = .ok (.iadd, 1) := dk_96 (dk_at dksJ7_grow_4 22 rfl rfl)
theorem dJ7_grow_116 : decode cJ7_grow 116 = .ok (.iload_n 2, 1) := dk_28 (dk_at dksJ7_grow_4 23 rfl rfl)
theorem dJ7_grow_117 : decode cJ7_grow 117 = .ok (.aload_n 0, 1) := dk_42 (dk_at dksJ7_grow_5 0 rfl rfl)
theorem dJ7_grow_118 : decode cJ7_grow 118 = .ok (.getfield 24, 3) := dk_180 0 24 (dk_at dksJ7_grow_5 1 rfl rfl)
theorem dJ7_grow_121 : decode cJ7_grow 121 = .ok (.isub, 1) := dk_100 (dk_at dksJ7_grow_5 4 rfl rfl)
theorem dJ7_grow_122 : decode cJ7_grow 122 = .ok (.invokestatic 27, 3) := dk_184 0 27 (dk_at dksJ7_grow_5 5 rfl rfl)
theorem dJ7_grow_125 : decode cJ7_grow 125 = .ok (.aload_n 0, 1) := dk_42 (dk_at dksJ7_grow_5 8 rfl rfl)
theorem dJ7_grow_126 : decode cJ7_grow 126 = .ok (.getfield 24, 3) := dk_180 0 24 (dk_at dksJ7_grow_5 9 rfl rfl)
theorem dJ7_grow_129 : decode cJ7_grow 129 = .ok (.istore 7, 2) := dk_54 7 (dk_at dksJ7_grow_5 12 rfl rfl)
theorem dJ7_grow_131 : decode cJ7_grow 131 = .ok (.aload_n 0, 1) := dk_42 (dk_at dksJ7_grow_5 14 rfl rfl)
theorem dJ7_grow_132 : decode cJ7_grow 132 = .ok (.dup, 1) := dk_89 (dk_at dksJ7_grow_5 15 rfl rfl)
theorem dJ7_grow_133 : decode cJ7_grow 133 = .ok (.getfield 24, 3) := dk_180 0 24 (dk_at dksJ7_grow_5 16 rfl rfl)
theorem dJ7_grow_136 : decode cJ7_grow 136 = .ok (.iload 6, 2) := dk_21 6 (dk_at dksJ7_grow_5 19 rfl rfl)
theorem dJ7_grow_138 : decode cJ7_grow 138 = .ok (.iadd, 1) := dk_96 (dk_at dksJ7_grow_5 21 rfl rfl)
theorem dJ7_grow_139 : decode cJ7_grow 139 = .ok (.dup_x1, 1) := dk_90 (dk_at dksJ7_grow_5 22 rfl rfl)
theorem dJ7_grow_140 : decode cJ7_grow 140 = .ok (.putfield 24, 3) := dk_181 0 24 (dk_at dksJ7_grow_6 0 rfl rfl)
theorem dJ7_grow_143 : decode cJ7_grow 143 = .ok (.istore 8, 2) := dk_54 8 (dk_at dksJ7_grow_6 3 rfl rfl)
theorem dJ7_grow_145 : decode cJ7_grow 145 = .ok (.iload 7, 2) := dk_21 7 (dk_at dksJ7_grow_6 5 rfl rfl)
theorem dJ7_grow_147 : decode cJ7_grow 147 = .ok (.iload 8, 2) := dk_21 8 (dk_at dksJ7_grow_6 7 rfl rfl)
theorem dJ7_grow_149 : decode cJ7_grow 149 = .ok (.if_icmp .ge 15, 3) := dk_162 0 15 (dk_at dksJ7_grow_6 9 rfl rfl)
theorem dJ7_grow_152 : decode cJ7_grow 152 = .ok (.aload 5, 2) := dk_25 5 (dk_at dksJ7_grow_6 12 rfl rfl)
theorem dJ7_grow_154 : decode cJ7_grow 154 = .ok (.iload 7, 2) := dk_21 7 (dk_at dksJ7_grow_6 14 rfl rfl)
theorem dJ7_grow_156 : decode cJ7_grow 156 = .ok (.aconst_null, 1) := dk_1 (dk_at dksJ7_grow_6 16 rfl rfl)
theorem dJ7_grow_157 : decode cJ7_grow 157 = .ok (.aastore, 1) := dk_83 (dk_at dksJ7_grow_6 17 rfl rfl)
theorem dJ7_grow_158 : decode cJ7_grow 158 = .ok (.iinc 7 1, 3) := dk_132 7 1 (dk_at dksJ7_grow_6 18 rfl rfl)
theorem dJ7_grow_161 : decode cJ7_grow 161 = .ok (.goto (-16), 3) := dk_167 255 240 (dk_at dksJ7_grow_6 21 rfl rfl)
theorem dJ7_grow_164 : decode cJ7_grow 164 = .ok (.return_, 1) := dk_177 (dk_at dksJ7_grow_7 0 rfl rfl)
abbrev cJ7_newCapacity : ByteArray := prog_39_method_2_code
def yJ7_newCapacity : MethodName := ⟨RJ7, "newCapacity", "(II)I"⟩
def dkwJ7_newCapacity_2 : List UInt8 := [18, 9, 100, 156, 0, 9, 29, 28, 96, 167, 0, 5, 18, 9, 172]
abbrev dktJ7_newCapacity_2 : List UInt8 := dkwJ7_newCapacity_2 ++ []
def dkwJ7_newCapacity_1 : List UInt8 := [187, 0, 33, 89, 18, 35, 183, 0, 37, 191, 18, 41, 172, 27, 28, 164, 0, 6, 21, 4, 172, 29, 28, 96]
abbrev dktJ7_newCapacity_1 : List UInt8 := dkwJ7_newCapacity_1 ++ dktJ7_newCapacity_2
def dkwJ7_newCapacity_0 : List UInt8 := [42, 180, 0, 3, 190, 62, 29, 27, 96, 89, 54, 4, 18, 9, 100, 158, 0, 21, 21, 4, 156, 0, 13]
abbrev dktJ7_newCapacity_0 : List UInt8 := dkwJ7_newCapacity_0 ++ dktJ7_newCapacity_1
theorem dksJ7_newCapacity_0 : cJ7_newCapacity.data.toList.drop 0 = dktJ7_newCapacity_0 := by decide +kernel
theorem dksJ7_newCapacity_1 : cJ7_newCapacity.data.toList.drop 23 = dktJ7_newCapacity_1 := dk_seg dksJ7_newCapacity_0 23 rfl rfl
theorem dksJ7_newCapacity_2 : cJ7_newCapacity.data.toList.drop 47 = dktJ7_newCapacity_2 := dk_seg dksJ7_newCapacity_1 24 rfl rfl
theorem dJ7_newCapacity_0 : decode cJ7_newCapacity 0 = .ok (.aload_n 0, 1) := dk_42 (dk_at dksJ7_newCapacity_0 0 rfl rfl)
theorem dJ7_newCapacity_1 : decode cJ7_newCapacity 1 = .ok (.getfield 3, 3) := dk_180 0 3 (dk_at dksJ7_newCapacity_0 1 rfl rfl)
theorem dJ7_newCapacity_4 : decode cJ7_newCapacity 4 = .ok (.arraylength, 1) := dk_190 (dk_at dksJ7_newCapacity_0 4 rfl rfl)
theorem dJ7_newCapacity_5 : decode cJ7_newCapacity 5 = .ok (.istore_n 3, 1) := dk_62 (dk_at dksJ7_newCapacity_0 5 rfl rfl)
theorem dJ7_newCapacity_6 : decode cJ7_newCapacity 6 = .ok (.iload_n 3, 1) := dk_29 (dk_at dksJ7_newCapacity_0 6 rfl rfl)
theorem dJ7_newCapacity_7 : decode cJ7_newCapacity 7 = .ok (.iload_n 1, 1) := dk_27 (dk_at dksJ7_newCapacity_0 7 rfl rfl)
theorem dJ7_newCapacity_8 : decode cJ7_newCapacity 8 = .ok (.iadd, 1) := dk_96 (dk_at dksJ7_newCapacity_0 8 rfl rfl)
theorem dJ7_newCapacity_9 : decode cJ7_newCapacity 9 = .ok (.dup, 1) := dk_89 (dk_at dksJ7_newCapacity_0 9 rfl rfl)
theorem dJ7_newCapacity_10 : decode cJ7_newCapacity 10 = .ok (.istore 4, 2) := dk_54 4 (dk_at dksJ7_newCapacity_0 10 rfl rfl)
theorem dJ7_newCapacity_12 : decode cJ7_newCapacity 12 = .ok (.ldc 9, 2) := dk_18 9 (dk_at dksJ7_newCapacity_0 12 rfl rfl)
theorem dJ7_newCapacity_14 : decode cJ7_newCapacity 14 = .ok (.isub, 1) := dk_100 (dk_at dksJ7_newCapacity_0 14 rfl rfl)
theorem dJ7_newCapacity_15 : decode cJ7_newCapacity 15 = .ok (.ifCond .le 21, 3) := dk_158 0 21 (dk_at dksJ7_newCapacity_0 15 rfl rfl)
theorem dJ7_newCapacity_18 : decode cJ7_newCapacity 18 = .ok (.iload 4, 2) := dk_21 4 (dk_at dksJ7_newCapacity_0 18 rfl rfl)
theorem dJ7_newCapacity_20 : decode cJ7_newCapacity 20 = .ok (.ifCond .ge 13, 3) := dk_156 0 13 (dk_at dksJ7_newCapacity_0 20 rfl rfl)
theorem dJ7_newCapacity_23 : decode cJ7_newCapacity 23 = .ok (.new 33, 3) := dk_187 0 33 (dk_at dksJ7_newCapacity_1 0 rfl rfl)
theorem dJ7_newCapacity_26 : decode cJ7_newCapacity 26 = .ok (.dup, 1) := dk_89 (dk_at dksJ7_newCapacity_1 3 rfl rfl)
theorem dJ7_newCapacity_27 : decode cJ7_newCapacity 27 = .ok (.ldc 35, 2) := dk_18 35 (dk_at dksJ7_newCapacity_1 4 rfl rfl)
theorem dJ7_newCapacity_29 : decode cJ7_newCapacity 29 = .ok (.invokespecial 37, 3) := dk_183 0 37 (dk_at dksJ7_newCapacity_1 6 rfl rfl)
theorem dJ7_newCapacity_32 : decode cJ7_newCapacity 32 = .ok (.athrow, 1) := dk_191 (dk_at dksJ7_newCapacity_1 9 rfl rfl)
theorem dJ7_newCapacity_33 : decode cJ7_newCapacity 33 = .ok (.ldc 41, 2) := dk_18 41 (dk_at dksJ7_newCapacity_1 10 rfl rfl)
theorem dJ7_newCapacity_35 : decode cJ7_newCapacity 35 = .ok (.ireturn, 1) := dk_172 (dk_at dksJ7_newCapacity_1 12 rfl rfl)
theorem dJ7_newCapacity_36 : decode cJ7_newCapacity 36 = .ok (.iload_n 1, 1) := dk_27 (dk_at dksJ7_newCapacity_1 13 rfl rfl)
theorem dJ7_newCapacity_37 : decode cJ7_newCapacity 37 = .ok (.iload_n 2, 1) := dk_28 (dk_at dksJ7_newCapacity_1 14 rfl rfl)
theorem dJ7_newCapacity_38 : decode cJ7_newCapacity 38 = .ok (.if_icmp .le 6, 3) := dk_164 0 6 (dk_at dksJ7_newCapacity_1 15 rfl rfl)
theorem dJ7_newCapacity_41 : decode cJ7_newCapacity 41 = .ok (.iload 4, 2) := dk_21 4 (dk_at dksJ7_newCapacity_1 18 rfl rfl)
theorem dJ7_newCapacity_43 : decode cJ7_newCapacity 43 = .ok (.ireturn, 1) := dk_172 (dk_at dksJ7_newCapacity_1 20 rfl rfl)
theorem dJ7_newCapacity_44 : decode cJ7_newCapacity 44 = .ok (.iload_n 3, 1) := dk_29 (dk_at dksJ7_newCapacity_1 21 rfl rfl)
theorem dJ7_newCapacity_45 : decode cJ7_newCapacity 45 = .ok (.iload_n 2, 1) := dk_28 (dk_at dksJ7_newCapacity_1 22 rfl rfl)
theorem dJ7_newCapacity_46 : decode cJ7_newCapacity 46 = .ok (.iadd, 1) := dk_96 (dk_at dksJ7_newCapacity_1 23 rfl rfl)
theorem dJ7_newCapacity_47 : decode cJ7_newCapacity 47 = .ok (.ldc 9, 2) := dk_18 9 (dk_at dksJ7_newCapacity_2 0 rfl rfl)
theorem dJ7_newCapacity_49 : decode cJ7_newCapacity 49 = .ok (.isub, 1) := dk_100 (dk_at dksJ7_newCapacity_2 2 rfl rfl)
theorem dJ7_newCapacity_50 : decode cJ7_newCapacity 50 = .ok (.ifCond .ge 9, 3) := dk_156 0 9 (dk_at dksJ7_newCapacity_2 3 rfl rfl)
theorem dJ7_newCapacity_53 : decode cJ7_newCapacity 53 = .ok (.iload_n 3, 1) := dk_29 (dk_at dksJ7_newCapacity_2 6 rfl rfl)
theorem dJ7_newCapacity_54 : decode cJ7_newCapacity 54 = .ok (.iload_n 2, 1) := dk_28 (dk_at dksJ7_newCapacity_2 7 rfl rfl)
theorem dJ7_newCapacity_55 : decode cJ7_newCapacity 55 = .ok (.iadd, 1) := dk_96 (dk_at dksJ7_newCapacity_2 8 rfl rfl)
theorem dJ7_newCapacity_56 : decode cJ7_newCapacity 56 = .ok (.goto 5, 3) := dk_167 0 5 (dk_at dksJ7_newCapacity_2 9 rfl rfl)
theorem dJ7_newCapacity_59 : decode cJ7_newCapacity 59 = .ok (.ldc 9, 2) := dk_18 9 (dk_at dksJ7_newCapacity_2 12 rfl rfl)
theorem dJ7_newCapacity_61 : decode cJ7_newCapacity 61 = .ok (.ireturn, 1) := dk_172 (dk_at dksJ7_newCapacity_2 14 rfl rfl)
abbrev cJ7_isEmpty : ByteArray := prog_39_method_38_code
def yJ7_isEmpty : MethodName := ⟨RJ7, "isEmpty", "()Z"⟩
def dkwJ7_isEmpty_0 : List UInt8 := [42, 180, 0, 24, 42, 180, 0, 20, 160, 0, 7, 4, 167, 0, 4, 3, 172]
abbrev dktJ7_isEmpty_0 : List UInt8 := dkwJ7_isEmpty_0 ++ []
theorem dksJ7_isEmpty_0 : cJ7_isEmpty.data.toList.drop 0 = dktJ7_isEmpty_0 := by decide +kernel
theorem dJ7_isEmpty_0 : decode cJ7_isEmpty 0 = .ok (.aload_n 0, 1) := dk_42 (dk_at dksJ7_isEmpty_0 0 rfl rfl)
theorem dJ7_isEmpty_1 : decode cJ7_isEmpty 1 = .ok (.getfield 24, 3) := dk_180 0 24 (dk_at dksJ7_isEmpty_0 1 rfl rfl)
theorem dJ7_isEmpty_4 : decode cJ7_isEmpty 4 = .ok (.aload_n 0, 1) := dk_42 (dk_at dksJ7_isEmpty_0 4 rfl rfl)
theorem dJ7_isEmpty_5 : decode cJ7_isEmpty 5 = .ok (.getfield 20, 3) := dk_180 0 20 (dk_at dksJ7_isEmpty_0 5 rfl rfl)
theorem dJ7_isEmpty_8 : decode cJ7_isEmpty 8 = .ok (.if_icmp .ne 7, 3) := dk_160 0 7 (dk_at dksJ7_isEmpty_0 8 rfl rfl)
theorem dJ7_isEmpty_11 : decode cJ7_isEmpty 11 = .ok (.iconst 1, 1) := dk_4 (dk_at dksJ7_isEmpty_0 11 rfl rfl)
theorem dJ7_isEmpty_12 : decode cJ7_isEmpty 12 = .ok (.goto 4, 3) := dk_167 0 4 (dk_at dksJ7_isEmpty_0 12 rfl rfl)
theorem dJ7_isEmpty_15 : decode cJ7_isEmpty 15 = .ok (.iconst 0, 1) := dk_3 (dk_at dksJ7_isEmpty_0 15 rfl rfl)
theorem dJ7_isEmpty_16 : decode cJ7_isEmpty 16 = .ok (.ireturn, 1) := dk_172 (dk_at dksJ7_isEmpty_0 16 rfl rfl)
abbrev cJ7_removeFirst : ByteArray := prog_39_method_18_code
def yJ7_removeFirst : MethodName := ⟨RJ7, "removeFirst", "()Ljava/lang/Object;"⟩
def dkwJ7_removeFirst_0 : List UInt8 := [42, 182, 0, 93, 76, 43, 199, 0, 11, 187, 0, 97, 89, 183, 0, 99, 191, 43, 176]
abbrev dktJ7_removeFirst_0 : List UInt8 := dkwJ7_removeFirst_0 ++ []
theorem dksJ7_removeFirst_0 : cJ7_removeFirst.data.toList.drop 0 = dktJ7_removeFirst_0 := by decide +kernel
theorem dJ7_removeFirst_0 : decode cJ7_removeFirst 0 = .ok (.aload_n 0, 1) := dk_42 (dk_at dksJ7_removeFirst_0 0 rfl rfl)
theorem dJ7_removeFirst_1 : decode cJ7_removeFirst 1 = .ok (.invokevirtual 93, 3) := dk_182 0 93 (dk_at dksJ7_removeFirst_0 1 rfl rfl)
theorem dJ7_removeFirst_4 : decode cJ7_removeFirst 4 = .ok (.astore_n 1, 1) := dk_76 (dk_at dksJ7_removeFirst_0 4 rfl rfl)
theorem dJ7_removeFirst_5 : decode cJ7_removeFirst 5 = .ok (.aload_n 1, 1) := dk_43 (dk_at dksJ7_removeFirst_0 5 rfl rfl)
theorem dJ7_removeFirst_6 : decode cJ7_removeFirst 6 = .ok (.ifnonnull 11, 3) := dk_199 0 11 (dk_at dksJ7_removeFirst_0 6 rfl rfl)
theorem dJ7_removeFirst_9 : decode cJ7_removeFirst 9 = .ok (.new 97, 3) := dk_187 0 97 (dk_at dksJ7_removeFirst_0 9 rfl rfl)
theorem dJ7_removeFirst_12 : decode cJ7_removeFirst 12 = .ok (.dup, 1) := dk_89 (dk_at dksJ7_removeFirst_0 12 rfl rfl)
theorem dJ7_removeFirst_13 : decode cJ7_removeFirst 13 = .ok (.invokespecial 99, 3) := dk_183 0 99 (dk_at dksJ7_removeFirst_0 13 rfl rfl)
theorem dJ7_removeFirst_16 : decode cJ7_removeFirst 16 = .ok (.athrow, 1) := dk_191 (dk_at dksJ7_removeFirst_0 16 rfl rfl)
theorem dJ7_removeFirst_17 : decode cJ7_removeFirst 17 = .ok (.aload_n 1, 1) := dk_43 (dk_at dksJ7_removeFirst_0 17 rfl rfl)
theorem dJ7_removeFirst_18 : decode cJ7_removeFirst 18 = .ok (.areturn, 1) := dk_176 (dk_at dksJ7_removeFirst_0 18 rfl rfl)
abbrev cJ7_pollFirst : ByteArray := prog_39_method_20_code
def yJ7_pollFirst : MethodName := ⟨RJ7, "pollFirst", "()Ljava/lang/Object;"⟩
def dkwJ7_pollFirst_1 : List UInt8 := [42, 28, 43, 190, 184, 0, 74, 181, 0, 24, 45, 176]
abbrev dktJ7_pollFirst_1 : List UInt8 := dkwJ7_pollFirst_1 ++ []
def dkwJ7_pollFirst_0 : List UInt8 := [42, 180, 0, 3, 89, 76, 42, 180, 0, 24, 89, 61, 184, 0, 103, 78, 45, 198, 0, 17, 43, 28, 1, 83]
abbrev dktJ7_pollFirst_0 : List UInt8 := dkwJ7_pollFirst_0 ++ dktJ7_pollFirst_1
theorem dksJ7_pollFirst_0 : cJ7_pollFirst.data.toList.drop 0 = dktJ7_pollFirst_0 := by decide +kernel
theorem dksJ7_pollFirst_1 : cJ7_pollFirst.data.toList.drop 24 = dktJ7_pollFirst_1 := dk_seg dksJ7_pollFirst_0 24 rfl rfl
theorem dJ7_pollFirst_0 : decode cJ7_pollFirst 0 = .ok (.aload_n 0, 1) := dk_42 (dk_at dksJ7_pollFirst_0 0 rfl rfl)
theorem dJ7_pollFirst_1 : decode cJ7_pollFirst 1 = .ok (.getfield 3, 3) := dk_180 0 3 (dk_at dksJ7_pollFirst_0 1 rfl rfl)
theorem dJ7_pollFirst_4 : decode cJ7_pollFirst 4 = .ok (.dup, 1) := dk_89 (dk_at dksJ7_pollFirst_0 4 rfl rfl)
theorem dJ7_pollFirst_5 : decode cJ7_pollFirst 5 = .ok (.astore_n 1, 1) := dk_76 (dk_at dksJ7_pollFirst_0 5 rfl rfl)
theorem dJ7_pollFirst_6 : decode cJ7_pollFirst 6 = .ok (.aload_n 0, 1) := dk_42 (dk_at dksJ7_pollFirst_0 6 rfl rfl)
theorem dJ7_pollFirst_7 : decode cJ7_pollFirst 7 = .ok (.getfield 24, 3) := dk_180 0 24 (dk_at dksJ7_pollFirst_0 7 rfl rfl)
theorem dJ7_pollFirst_10 : decode cJ7_pollFirst 10 = .ok (.dup, 1) := dk_89 (dk_at dksJ7_pollFirst_0 10 rfl rfl)
theorem dJ7_pollFirst_11 : decode cJ7_pollFirst 11 = .ok (.istore_n 2, 1) := dk_61 (dk_at dksJ7_pollFirst_0 11 rfl rfl)
theorem dJ7_pollFirst_12 : decode cJ7_pollFirst 12 = .ok (.invokestatic 103, 3) := dk_184 0 103 (dk_at dksJ7_pollFirst_0 12 rfl rfl)
theorem dJ7_pollFirst_15 : decode cJ7_pollFirst 15 = .ok (.astore_n 3, 1) := dk_78 (dk_at dksJ7_pollFirst_0 15 rfl rfl)
theorem dJ7_pollFirst_16 : decode cJ7_pollFirst 16 = .ok (.aload_n 3, 1) := dk_45 (dk_at dksJ7_pollFirst_0 16 rfl rfl)
theorem dJ7_pollFirst_17 : decode cJ7_pollFirst 17 = .ok (.ifnull 17, 3) := dk_198 0 17 (dk_at dksJ7_pollFirst_0 17 rfl rfl)
theorem dJ7_pollFirst_20 : decode cJ7_pollFirst 20 = .ok (.aload_n 1, 1) := dk_43 (dk_at dksJ7_pollFirst_0 20 rfl rfl)
theorem dJ7_pollFirst_21 : decode cJ7_pollFirst 21 = .ok (.iload_n 2, 1) := dk_28 (dk_at dksJ7_pollFirst_0 21 rfl rfl)
theorem dJ7_pollFirst_22 : decode cJ7_pollFirst 22 = .ok (.aconst_null, 1) := dk_1 (dk_at dksJ7_pollFirst_0 22 rfl rfl)
theorem dJ7_pollFirst_23 : decode cJ7_pollFirst 23 = .ok (.aastore, 1) := dk_83 (dk_at dksJ7_pollFirst_0 23 rfl rfl)
theorem dJ7_pollFirst_24 : decode cJ7_pollFirst 24 = .ok (.aload_n 0, 1) := dk_42 (dk_at dksJ7_pollFirst_1 0 rfl rfl)
theorem dJ7_pollFirst_25 : decode cJ7_pollFirst 25 = .ok (.iload_n 2, 1) := dk_28 (dk_at dksJ7_pollFirst_1 1 rfl rfl)
theorem dJ7_pollFirst_26 : decode cJ7_pollFirst 26 = .ok (.aload_n 1, 1) := dk_43 (dk_at dksJ7_pollFirst_1 2 rfl rfl)
theorem dJ7_pollFirst_27 : decode cJ7_pollFirst 27 = .ok (.arraylength, 1) := dk_190 (dk_at dksJ7_pollFirst_1 3 rfl rfl)
theorem dJ7_pollFirst_28 : decode cJ7_pollFirst 28 = .ok (.invokestatic 74, 3) := dk_184 0 74 (dk_at dksJ7_pollFirst_1 4 rfl rfl)
theorem dJ7_pollFirst_31 : decode cJ7_pollFirst 31 = .ok (.putfield 24, 3) := dk_181 0 24 (dk_at dksJ7_pollFirst_1 7 rfl rfl)
theorem dJ7_pollFirst_34 : decode cJ7_pollFirst 34 = .ok (.aload_n 3, 1) := dk_45 (dk_at dksJ7_pollFirst_1 10 rfl rfl)
theorem dJ7_pollFirst_35 : decode cJ7_pollFirst 35 = .ok (.areturn, 1) := dk_176 (dk_at dksJ7_pollFirst_1 11 rfl rfl)
abbrev cJ7_elementAt : ByteArray := prog_39_method_10_code
def yJ7_elementAt : MethodName := ⟨RJ7, "elementAt", "([Ljava/lang/Object;I)Ljava/lang/Object;"⟩
def dkwJ7_elementAt_0 : List UInt8 := [42, 27, 50, 176]
abbrev dktJ7_elementAt_0 : List UInt8 := dkwJ7_elementAt_0 ++ []
theorem dksJ7_elementAt_0 : cJ7_elementAt.data.toList.drop 0 = dktJ7_elementAt_0 := by decide +kernel
theorem dJ7_elementAt_0 : decode cJ7_elementAt 0 = .ok (.aload_n 0, 1) := dk_42 (dk_at dksJ7_elementAt_0 0 rfl rfl)
theorem dJ7_elementAt_1 : decode cJ7_elementAt 1 = .ok (.iload_n 1, 1) := dk_27 (dk_at dksJ7_elementAt_0 1 rfl rfl)
theorem dJ7_elementAt_2 : decode cJ7_elementAt 2 = .ok (.aaload, 1) := dk_50 (dk_at dksJ7_elementAt_0 2 rfl rfl)
theorem dJ7_elementAt_3 : decode cJ7_elementAt 3 = .ok (.areturn, 1) := dk_176 (dk_at dksJ7_elementAt_0 3 rfl rfl)
theorem q128 : (Jvm.Cond.initialized "java/util/ArrayDeque") ∈ lw_all := lw_g (lw_at lw_m1 11 rfl) rfl
theorem q326 : (Jvm.Cond.instantiable "java/util/ArrayDeque" (3 : Nat)) ∈ lw_all := lw_g (lw_at lw_m1 209 rfl) rfl
theorem q328 : (Jvm.Cond.instanceMethod ({ cls := "java/util/ArrayDeque", name := "<init>", desc := "()V" } : Jvm.MethodName)) ∈ lw_all := lw_g (lw_at lw_m1 211 rfl) rfl
theorem q329 : (Jvm.Cond.code ({ cls := "java/util/ArrayDeque", name := "<init>", desc := "()V" } : Jvm.MethodName) prog_39_method_3_code (1 : Nat) (Option.none : Option Jvm.ClassFile.FieldType)) ∈ lw_all := lw_g (lw_at lw_m1 212 rfl) rfl
theorem q330 : (Jvm.Cond.methodLink "java/util/ArrayDeque" (42 : Nat) ({ cls := "java/util/AbstractCollection", name := "<init>", desc := "()V" } : Jvm.MethodName)) ∈ lw_all := lw_g (lw_at lw_m1 213 rfl) rfl
theorem q331 : (Jvm.Cond.classLink "java/util/ArrayDeque" (47 : Nat) "java/lang/Object") ∈ lw_all := lw_g (lw_at lw_m1 214 rfl) rfl
theorem q333 : (Jvm.Cond.fieldLink "java/util/ArrayDeque" (3 : Nat) "java/util/ArrayDeque" "elements" "[Ljava/lang/Object;") ∈ lw_all := lw_g (lw_at lw_m1 216 rfl) rfl
theorem q334 : (Jvm.Cond.fieldLink "java/util/ArrayDeque" (24 : Nat) "java/util/ArrayDeque" "head" "I") ∈ lw_all := lw_g (lw_at lw_m1 217 rfl) rfl
theorem q335 : (Jvm.Cond.fieldLink "java/util/ArrayDeque" (20 : Nat) "java/util/ArrayDeque" "tail" "I") ∈ lw_all := lw_g (lw_at lw_m1 218 rfl) rfl
theorem q336 : (Jvm.Cond.lays "java/util/ArrayDeque" "java/util/ArrayDeque" "elements" "[Ljava/lang/Object;") ∈ lw_all := lw_g (lw_at lw_m1 219 rfl) rfl
theorem q337 : (Jvm.Cond.soleField "java/util/ArrayDeque" "elements") ∈ lw_all := lw_g (lw_at lw_m1 220 rfl) rfl
theorem q338 : (Jvm.Cond.lays "java/util/ArrayDeque" "java/util/ArrayDeque" "head" "I") ∈ lw_all := lw_g (lw_at lw_m1 221 rfl) rfl
theorem q339 : (Jvm.Cond.soleField "java/util/ArrayDeque" "head") ∈ lw_all := lw_g (lw_at lw_m1 222 rfl) rfl
theorem q340 : (Jvm.Cond.lays "java/util/ArrayDeque" "java/util/ArrayDeque" "tail" "I") ∈ lw_all := lw_g (lw_at lw_m1 223 rfl) rfl
theorem q341 : (Jvm.Cond.soleField "java/util/ArrayDeque" "tail") ∈ lw_all := lw_g (lw_at lw_m1 224 rfl) rfl
theorem q342 : (Jvm.Cond.superclass "java/util/ArrayDeque" "java/util/AbstractCollection") ∈ lw_all := lw_g (lw_at lw_m1 225 rfl) rfl
theorem q1043 : (Jvm.Cond.selects "java/util/ArrayDeque" ({ cls := "java/util/AbstractCollection", name := "size", desc := "()I" } : Jvm.MethodName) ({ cls := "java/util/ArrayDeque", name := "size", desc := "()I" } : Jvm.MethodName)) ∈ lw_all := lw_g (lw_at lw_m4 206 rfl) rfl
theorem q1044 : (Jvm.Cond.instanceMethod ({ cls := "java/util/ArrayDeque", name := "size", desc := "()I" } : Jvm.MethodName)) ∈ lw_all := lw_g (lw_at lw_m4 207 rfl) rfl
theorem q1045 : (Jvm.Cond.code ({ cls := "java/util/ArrayDeque", name := "size", desc := "()I" } : Jvm.MethodName) prog_39_method_37_code (1 : Nat) (Option.some Jvm.ClassFile.FieldType.int)) ∈ lw_all := lw_g (lw_at lw_m4 208 rfl) rfl
theorem q1046 : (Jvm.Cond.methodLink "java/util/ArrayDeque" (127 : Nat) ({ cls := "java/util/ArrayDeque", name := "sub", desc := "(III)I" } : Jvm.MethodName)) ∈ lw_all := lw_g (lw_at lw_m4 209 rfl) rfl
theorem q1047 : (Jvm.Cond.static ({ cls := "java/util/ArrayDeque", name := "sub", desc := "(III)I" } : Jvm.MethodName)) ∈ lw_all := lw_g (lw_at lw_m4 210 rfl) rfl
theorem q1048 : (Jvm.Cond.code ({ cls := "java/util/ArrayDeque", name := "sub", desc := "(III)I" } : Jvm.MethodName) prog_39_method_9_code (3 : Nat) (Option.some Jvm.ClassFile.FieldType.int)) ∈ lw_all := lw_g (lw_at lw_m4 211 rfl) rfl
theorem q1181 : (Jvm.Cond.selects "java/util/ArrayDeque" ({ cls := "java/lang/Object", name := "getClass", desc := "()Ljava/lang/Class;" } : Jvm.MethodName) ({ cls := "java/lang/Object", name := "getClass", desc := "()Ljava/lang/Class;" } : Jvm.MethodName)) ∈ lw_all := lw_g (lw_at lw_m5 104 rfl) rfl
theorem q1576 : (Jvm.Cond.instanceMethod ({ cls := "java/util/ArrayDeque", name := "addLast", desc := "(Ljava/lang/Object;)V" } : Jvm.MethodName)) ∈ lw_all := lw_g (lw_at lw_m7 19 rfl) rfl
theorem q1577 : (Jvm.Cond.selects "java/util/ArrayDeque" ({ cls := "java/util/ArrayDeque", name := "addLast", desc := "(Ljava/lang/Object;)V" } : Jvm.MethodName) ({ cls := "java/util/ArrayDeque", name := "addLast", desc := "(Ljava/lang/Object;)V" } : Jvm.MethodName)) ∈ lw_all := lw_g (lw_at lw_m7 20 rfl) rfl
theorem q1578 : (Jvm.Cond.code ({ cls := "java/util/ArrayDeque", name := "addLast", desc := "(Ljava/lang/Object;)V" } : Jvm.MethodName) prog_39_method_13_code (3 : Nat) (Option.none : Option Jvm.ClassFile.FieldType)) ∈ lw_all := lw_g (lw_at lw_m7 21 rfl) rfl
theorem q1579 : (Jvm.Cond.methodLink "java/util/ArrayDeque" (74 : Nat) ({ cls := "java/util/ArrayDeque", name := "inc", desc := "(II)I" } : Jvm.MethodName)) ∈ lw_all := lw_g (lw_at lw_m7 22 rfl) rfl
theorem q1580 : (Jvm.Cond.static ({ cls := "java/util/ArrayDeque", name := "inc", desc := "(II)I" } : Jvm.MethodName)) ∈ lw_all := lw_g (lw_at lw_m7 23 rfl) rfl
theorem q1581 : (Jvm.Cond.code ({ cls := "java/util/ArrayDeque", name := "inc", desc := "(II)I" } : Jvm.MethodName) prog_39_method_6_code (2 : Nat) (Option.some Jvm.ClassFile.FieldType.int)) ∈ lw_all := lw_g (lw_at lw_m7 24 rfl) rfl
theorem q1582 : (Jvm.Cond.methodLink "java/util/ArrayDeque" (71 : Nat) ({ cls := "java/util/ArrayDeque", name := "grow", desc := "(I)V" } : Jvm.MethodName)) ∈ lw_all := lw_g (lw_at lw_m7 25 rfl) rfl
theorem q1583 : (Jvm.Cond.privateMethod ({ cls := "java/util/ArrayDeque", name := "grow", desc := "(I)V" } : Jvm.MethodName)) ∈ lw_tbl := lw_at lw_m7 26 rfl
theorem q1584 : (Jvm.Cond.instanceMethod ({ cls := "java/util/ArrayDeque", name := "grow", desc := "(I)V" } : Jvm.MethodName)) ∈ lw_all := lw_g (lw_at lw_m7 27 rfl) rfl
theorem q1585 : (Jvm.Cond.code ({ cls := "java/util/ArrayDeque", name := "grow", desc := "(I)V" } : Jvm.MethodName) prog_39_method_1_code (9 : Nat) (Option.none : Option Jvm.ClassFile.FieldType)) ∈ lw_all := lw_g (lw_at lw_m7 28 rfl) rfl
theorem q1586 : (Jvm.Cond.constant "java/util/ArrayDeque" (9 : Nat) (2147483639 : Int32)) ∈ lw_all := lw_g (lw_at lw_m7 29 rfl) rfl
theorem q1587 : (Jvm.Cond.methodLink "java/util/ArrayDeque" (10 : Nat) ({ cls := "java/util/ArrayDeque", name := "newCapacity", desc := "(II)I" } : Jvm.MethodName)) ∈ lw_all := lw_g (lw_at lw_m7 30 rfl) rfl
theorem q1588 : (Jvm.Cond.privateMethod ({ cls := "java/util/ArrayDeque", name := "newCapacity", desc := "(II)I" } : Jvm.MethodName)) ∈ lw_tbl := lw_at lw_m7 31 rfl
theorem q1589 : (Jvm.Cond.instanceMethod ({ cls := "java/util/ArrayDeque", name := "newCapacity", desc := "(II)I" } : Jvm.MethodName)) ∈ lw_all := lw_g (lw_at lw_m7 32 rfl) rfl
theorem q1590 : (Jvm.Cond.code ({ cls := "java/util/ArrayDeque", name := "newCapacity", desc := "(II)I" } : Jvm.MethodName) prog_39_method_2_code (5 : Nat) (Option.some Jvm.ClassFile.FieldType.int)) ∈ lw_all := lw_g (lw_at lw_m7 33 rfl) rfl
theorem q1591 : (Jvm.Cond.constant "java/util/ArrayDeque" (41 : Nat) (2147483647 : Int32)) ∈ lw_all := lw_g (lw_at lw_m7 34 rfl) rfl
theorem q1592 : (Jvm.Cond.methodLink "java/util/ArrayDeque" (14 : Nat) ({ cls := "java/util/Arrays", name := "copyOf", desc := "([Ljava/lang/Object;I)[Ljava/lang/Object;" } : Jvm.MethodName)) ∈ lw_all := lw_g (lw_at lw_m7 35 rfl) rfl
theorem q1601 : (Jvm.Cond.methodLink "java/util/ArrayDeque" (27 : Nat) ({ cls := "java/lang/System", name := "arraycopy", desc := "(Ljava/lang/Object;ILjava/lang/Object;II)V" } : Jvm.MethodName)) ∈ lw_all := lw_g (lw_at lw_m7 44 rfl) rfl
theorem q1603 : (Jvm.Cond.instanceMethod ({ cls := "java/util/ArrayDeque", name := "isEmpty", desc := "()Z" } : Jvm.MethodName)) ∈ lw_all := lw_g (lw_at lw_m7 46 rfl) rfl
theorem q1604 : (Jvm.Cond.selects "java/util/ArrayDeque" ({ cls := "java/util/ArrayDeque", name := "isEmpty", desc := "()Z" } : Jvm.MethodName) ({ cls := "java/util/ArrayDeque", name := "isEmpty", desc := "()Z" } : Jvm.MethodName)) ∈ lw_all := lw_g (lw_at lw_m7 47 rfl) rfl
theorem q1605 : (Jvm.Cond.code ({ cls := "java/util/ArrayDeque", name := "isEmpty", desc := "()Z" } : Jvm.MethodName) prog_39_method_38_code (1 : Nat) (Option.some Jvm.ClassFile.FieldType.boolean)) ∈ lw_all := lw_g (lw_at lw_m7 48 rfl) rfl
theorem q1607 : (Jvm.Cond.instanceMethod ({ cls := "java/util/ArrayDeque", name := "removeFirst", desc := "()Ljava/lang/Object;" } : Jvm.MethodName)) ∈ lw_all := lw_g (lw_at lw_m7 50 rfl) rfl
theorem q1608 : (Jvm.Cond.selects "java/util/ArrayDeque" ({ cls := "java/util/ArrayDeque", name := "removeFirst", desc := "()Ljava/lang/Object;" } : Jvm.MethodName) ({ cls := "java/util/ArrayDeque", name := "removeFirst", desc := "()Ljava/lang/Object;" } : Jvm.MethodName)) ∈ lw_all := lw_g (lw_at lw_m7 51 rfl) rfl
theorem q1609 : (Jvm.Cond.code ({ cls := "java/util/ArrayDeque", name := "removeFirst", desc := "()Ljava/lang/Object;" } : Jvm.MethodName) prog_39_method_18_code (2 : Nat) (Option.some (Jvm.ClassFile.FieldType.object "java/lang/Object"))) ∈ lw_all := lw_g (lw_at lw_m7 52 rfl) rfl
theorem q1610 : (Jvm.Cond.methodLink "java/util/ArrayDeque" (93 : Nat) ({ cls := "java/util/ArrayDeque", name := "pollFirst", desc := "()Ljava/lang/Object;" } : Jvm.MethodName)) ∈ lw_all := lw_g (lw_at lw_m7 53 rfl) rfl
theorem q1611 : (Jvm.Cond.instanceMethod ({ cls := "java/util/ArrayDeque", name := "pollFirst", desc := "()Ljava/lang/Object;" } : Jvm.MethodName)) ∈ lw_all := lw_g (lw_at lw_m7 54 rfl) rfl
theorem q1612 : (Jvm.Cond.selects "java/util/ArrayDeque" ({ cls := "java/util/ArrayDeque", name := "pollFirst", desc := "()Ljava/lang/Object;" } : Jvm.MethodName) ({ cls := "java/util/ArrayDeque", name := "pollFirst", desc := "()Ljava/lang/Object;" } : Jvm.MethodName)) ∈ lw_all := lw_g (lw_at lw_m7 55 rfl) rfl
theorem q1613 : (Jvm.Cond.code ({ cls := "java/util/ArrayDeque", name := "pollFirst", desc := "()Ljava/lang/Object;" } : Jvm.MethodName) prog_39_method_20_code (4 : Nat) (Option.some (Jvm.ClassFile.FieldType.object "java/lang/Object"))) ∈ lw_all := lw_g (lw_at lw_m7 56 rfl) rfl
theorem q1614 : (Jvm.Cond.methodLink "java/util/ArrayDeque" (103 : Nat) ({ cls := "java/util/ArrayDeque", name := "elementAt", desc := "([Ljava/lang/Object;I)Ljava/lang/Object;" } : Jvm.MethodName)) ∈ lw_all := lw_g (lw_at lw_m7 57 rfl) rfl
theorem q1615 : (Jvm.Cond.static ({ cls := "java/util/ArrayDeque", name := "elementAt", desc := "([Ljava/lang/Object;I)Ljava/lang/Object;" } : Jvm.MethodName)) ∈ lw_all := lw_g (lw_at lw_m7 58 rfl) rfl
theorem q1616 : (Jvm.Cond.code ({ cls := "java/util/ArrayDeque", name := "elementAt", desc := "([Ljava/lang/Object;I)Ljava/lang/Object;" } : Jvm.MethodName) prog_39_method_10_code (2 : Nat) (Option.some (Jvm.ClassFile.FieldType.object "java/lang/Object"))) ∈ lw_all := lw_g (lw_at lw_m7 59 rfl) rfl
theorem q1617 : (Jvm.Cond.classLink "java/util/ArrayDeque" (97 : Nat) "java/util/NoSuchElementException") ∈ lw_all := lw_g (lw_at lw_m7 60 rfl) rfl
theorem q1618 : (Jvm.Cond.methodLink "java/util/ArrayDeque" (99 : Nat) ({ cls := "java/util/NoSuchElementException", name := "<init>", desc := "()V" } : Jvm.MethodName)) ∈ lw_all := lw_g (lw_at lw_m7 61 rfl) rfl
theorem q2350 : (Jvm.Cond.castable "java/util/ArrayDeque" "java/lang/Object") ∈ lw_tbl := lw_at lw_m10 73 rfl
theorem in_J7 : ∀ w ∈ wsJ70, w ∈ lw_all := lw_in wsJ70 [336, 338, 340] (by decide +kernel) (by decide +kernel)
/-! java/lang/String -/
set_option maxRecDepth 100000
def RJ8 : String := "java/lang/String"
def TJ8 : u_T := fun k => match k with
  | 0 => ("java/lang/String", "value", "[B", true)
  | 1 => ("java/lang/String", "coder", "B", true)
  | 2 => ("java/lang/String", "hash", "I", false)
  | _ => ("java/lang/String", "hashIsZero", "Z", false)
def tyJ8 : Nat → FieldType := fun k => match k with
  | 0 => .array .byte
  | 1 => .byte
  | 2 => .int
  | _ => .boolean
abbrev wsJ80 : List Cond := u_ws RJ8 TJ8 4
theorem nmJ8 : ∀ a, a < 4 → ∀ b, b < 4 → a ≠ b → (TJ8 a).2.1 ≠ (TJ8 b).2.1 := by decide +kernel
theorem tyJ8_ok : ∀ k, k < 4 → parseFieldDescriptor (TJ8 k).2.2.1 = some (tyJ8 k) := by decide +kernel
abbrev cJ8_charAt : ByteArray := prog_26_method_56_code
def yJ8_charAt : MethodName := ⟨RJ8, "charAt", "(I)C"⟩
def dkwJ8_charAt_1 : List UInt8 := [172]
abbrev dktJ8_charAt_1 : List UInt8 := dkwJ8_charAt_1 ++ []
def dkwJ8_charAt_0 : List UInt8 := [42, 182, 1, 236, 153, 0, 12, 42, 180, 0, 9, 27, 184, 1, 239, 172, 42, 180, 0, 9, 27, 184, 1, 242]
abbrev dktJ8_charAt_0 : List UInt8 := dkwJ8_charAt_0 ++ dktJ8_charAt_1
theorem dksJ8_charAt_0 : cJ8_charAt.data.toList.drop 0 = dktJ8_charAt_0 := by decide +kernel
theorem dksJ8_charAt_1 : cJ8_charAt.data.toList.drop 24 = dktJ8_charAt_1 := dk_seg dksJ8_charAt_0 24 rfl rfl
theorem dJ8_charAt_0 : decode cJ8_charAt 0 = .ok (.aload_n 0, 1) := dk_42 (dk_at dksJ8_charAt_0 0 rfl rfl)
theorem dJ8_charAt_1 : decode cJ8_charAt 1 = .ok (.invokevirtual 492, 3) := dk_182 1 236 (dk_at dksJ8_charAt_0 1 rfl rfl)
theorem dJ8_charAt_4 : decode cJ8_charAt 4 = .ok (.ifCond .eq 12, 3) := dk_153 0 12 (dk_at dksJ8_charAt_0 4 rfl rfl)
theorem dJ8_charAt_7 : decode cJ8_charAt 7 = .ok (.aload_n 0, 1) := dk_42 (dk_at dksJ8_charAt_0 7 rfl rfl)
theorem dJ8_charAt_8 : decode cJ8_charAt 8 = .ok (.getfield 9, 3) := dk_180 0 9 (dk_at dksJ8_charAt_0 8 rfl rfl)
theorem dJ8_charAt_11 : decode cJ8_charAt 11 = .ok (.iload_n 1, 1) := dk_27 (dk_at dksJ8_charAt_0 11 rfl rfl)
theorem dJ8_charAt_12 : decode cJ8_charAt 12 = .ok (.invokestatic 495, 3) := dk_184 1 239 (dk_at dksJ8_charAt_0 12 rfl rfl)
theorem dJ8_charAt_15 : decode cJ8_charAt 15 = .ok (.ireturn, 1) := dk_172 (dk_at dksJ8_charAt_0 15 rfl rfl)
theorem dJ8_charAt_16 : decode cJ8_charAt 16 = .ok (.aload_n 0, 1) := dk_42 (dk_at dksJ8_charAt_0 16 rfl rfl)
theorem dJ8_charAt_17 : decode cJ8_charAt 17 = .ok (.getfield 9, 3) := dk_180 0 9 (dk_at dksJ8_charAt_0 17 rfl rfl)
theorem dJ8_charAt_20 : decode cJ8_charAt 20 = .ok (.iload_n 1, 1) := dk_27 (dk_at dksJ8_charAt_0 20 rfl rfl)
theorem dJ8_charAt_21 : decode cJ8_charAt 21 = .ok (.invokestatic 498, 3) := dk_184 1 242 (dk_at dksJ8_charAt_0 21 rfl rfl)
theorem dJ8_charAt_24 : decode cJ8_charAt 24 = .ok (.ireturn, 1) := dk_172 (dk_at dksJ8_charAt_1 0 rfl rfl)
abbrev cJ8_isLatin1 : ByteArray := prog_26_method_154_code
def yJ8_isLatin1 : MethodName := ⟨RJ8, "isLatin1", "()Z"⟩
def dkwJ8_isLatin1_0 : List UInt8 := [178, 0, 38, 153, 0, 14, 42, 180, 0, 15, 154, 0, 7, 4, 167, 0, 4, 3, 172]
abbrev dktJ8_isLatin1_0 : List UInt8 := dkwJ8_isLatin1_0 ++ []
theorem dksJ8_isLatin1_0 : cJ8_isLatin1.data.toList.drop 0 = dktJ8_isLatin1_0 := by decide +kernel
theorem dJ8_isLatin1_0 : decode cJ8_isLatin1 0 = .ok (.getstatic 38, 3) := dk_178 0 38 (dk_at dksJ8_isLatin1_0 0 rfl rfl)
theorem dJ8_isLatin1_3 : decode cJ8_isLatin1 3 = .ok (.ifCond .eq 14, 3) := dk_153 0 14 (dk_at dksJ8_isLatin1_0 3 rfl rfl)
theorem dJ8_isLatin1_6 : decode cJ8_isLatin1 6 = .ok (.aload_n 0, 1) := dk_42 (dk_at dksJ8_isLatin1_0 6 rfl rfl)
theorem dJ8_isLatin1_7 : decode cJ8_isLatin1 7 = .ok (.getfield 15, 3) := dk_180 0 15 (dk_at dksJ8_isLatin1_0 7 rfl rfl)
theorem dJ8_isLatin1_10 : decode cJ8_isLatin1 10 = .ok (.ifCond .ne 7, 3) := dk_154 0 7 (dk_at dksJ8_isLatin1_0 10 rfl rfl)
theorem dJ8_isLatin1_13 : decode cJ8_isLatin1 13 = .ok (.iconst 1, 1) := dk_4 (dk_at dksJ8_isLatin1_0 13 rfl rfl)
theorem dJ8_isLatin1_14 : decode cJ8_isLatin1 14 = .ok (.goto 4, 3) := dk_167 0 4 (dk_at dksJ8_isLatin1_0 14 rfl rfl)
theorem dJ8_isLatin1_17 : decode cJ8_isLatin1 17 = .ok (.iconst 0, 1) := dk_3 (dk_at dksJ8_isLatin1_0 17 rfl rfl)
theorem dJ8_isLatin1_18 : decode cJ8_isLatin1 18 = .ok (.ireturn, 1) := dk_172 (dk_at dksJ8_isLatin1_0 18 rfl rfl)
abbrev cJ8_checkIndex : ByteArray := prog_26_method_155_code
def yJ8_checkIndex : MethodName := ⟨RJ8, "checkIndex", "(II)V"⟩
def dkwJ8_checkIndex_0 : List UInt8 := [26, 27, 178, 4, 29, 184, 4, 35, 87, 177]
abbrev dktJ8_checkIndex_0 : List UInt8 := dkwJ8_checkIndex_0 ++ []
theorem dksJ8_checkIndex_0 : cJ8_checkIndex.data.toList.drop 0 = dktJ8_checkIndex_0 := by decide +kernel
theorem dJ8_checkIndex_0 : decode cJ8_checkIndex 0 = .ok (.iload_n 0, 1) := dk_26 (dk_at dksJ8_checkIndex_0 0 rfl rfl)
theorem dJ8_checkIndex_1 : decode cJ8_checkIndex 1 = .ok (.iload_n 1, 1) := dk_27 (dk_at dksJ8_checkIndex_0 1 rfl rfl)
theorem dJ8_checkIndex_2 : decode cJ8_checkIndex 2 = .ok (.getstatic 1053, 3) := dk_178 4 29 (dk_at dksJ8_checkIndex_0 2 rfl rfl)
theorem dJ8_checkIndex_5 : decode cJ8_checkIndex 5 = .ok (.invokestatic 1059, 3) := dk_184 4 35 (dk_at dksJ8_checkIndex_0 5 rfl rfl)
theorem dJ8_checkIndex_8 : decode cJ8_checkIndex 8 = .ok (.pop, 1) := dk_87 (dk_at dksJ8_checkIndex_0 8 rfl rfl)
theorem dJ8_checkIndex_9 : decode cJ8_checkIndex 9 = .ok (.return_, 1) := dk_177 (dk_at dksJ8_checkIndex_0 9 rfl rfl)
abbrev cJ8_indexOf : ByteArray := prog_26_method_79_code
def yJ8_indexOf : MethodName := ⟨RJ8, "indexOf", "(I)I"⟩
def dkwJ8_indexOf_0 : List UInt8 := [42, 27, 3, 182, 2, 121, 172]
abbrev dktJ8_indexOf_0 : List UInt8 := dkwJ8_indexOf_0 ++ []
theorem dksJ8_indexOf_0 : cJ8_indexOf.data.toList.drop 0 = dktJ8_indexOf_0 := by decide +kernel
theorem dJ8_indexOf_0 : decode cJ8_indexOf 0 = .ok (.aload_n 0, 1) := dk_42 (dk_at dksJ8_indexOf_0 0 rfl rfl)
theorem dJ8_indexOf_1 : decode cJ8_indexOf 1 = .ok (.iload_n 1, 1) := dk_27 (dk_at dksJ8_indexOf_0 1 rfl rfl)
theorem dJ8_indexOf_2 : decode cJ8_indexOf 2 = .ok (.iconst 0, 1) := dk_3 (dk_at dksJ8_indexOf_0 2 rfl rfl)
theorem dJ8_indexOf_3 : decode cJ8_indexOf 3 = .ok (.invokevirtual 633, 3) := dk_182 2 121 (dk_at dksJ8_indexOf_0 3 rfl rfl)
theorem dJ8_indexOf_6 : decode cJ8_indexOf 6 = .ok (.ireturn, 1) := dk_172 (dk_at dksJ8_indexOf_0 6 rfl rfl)
abbrev cJ8_indexOf_2 : ByteArray := prog_26_method_80_code
def yJ8_indexOf_2 : MethodName := ⟨RJ8, "indexOf", "(II)I"⟩
def dkwJ8_indexOf_2_1 : List UInt8 := [180, 0, 9, 27, 28, 42, 182, 1, 249, 184, 2, 128, 172]
abbrev dktJ8_indexOf_2_1 : List UInt8 := dkwJ8_indexOf_2_1 ++ []
def dkwJ8_indexOf_2_0 : List UInt8 := [42, 182, 1, 236, 153, 0, 19, 42, 180, 0, 9, 27, 28, 42, 182, 1, 249, 184, 2, 125, 167, 0, 16, 42]
abbrev dktJ8_indexOf_2_0 : List UInt8 := dkwJ8_indexOf_2_0 ++ dktJ8_indexOf_2_1
theorem dksJ8_indexOf_2_0 : cJ8_indexOf_2.data.toList.drop 0 = dktJ8_indexOf_2_0 := by decide +kernel
theorem dksJ8_indexOf_2_1 : cJ8_indexOf_2.data.toList.drop 24 = dktJ8_indexOf_2_1 := dk_seg dksJ8_indexOf_2_0 24 rfl rfl
theorem dJ8_indexOf_2_0 : decode cJ8_indexOf_2 0 = .ok (.aload_n 0, 1) := dk_42 (dk_at dksJ8_indexOf_2_0 0 rfl rfl)
theorem dJ8_indexOf_2_1 : decode cJ8_indexOf_2 1 = .ok (.invokevirtual 492, 3) := dk_182 1 236 (dk_at dksJ8_indexOf_2_0 1 rfl rfl)
theorem dJ8_indexOf_2_4 : decode cJ8_indexOf_2 4 = .ok (.ifCond .eq 19, 3) := dk_153 0 19 (dk_at dksJ8_indexOf_2_0 4 rfl rfl)
theorem dJ8_indexOf_2_7 : decode cJ8_indexOf_2 7 = .ok (.aload_n 0, 1) := dk_42 (dk_at dksJ8_indexOf_2_0 7 rfl rfl)
theorem dJ8_indexOf_2_8 : decode cJ8_indexOf_2 8 = .ok (.getfield 9, 3) := dk_180 0 9 (dk_at dksJ8_indexOf_2_0 8 rfl rfl)
theorem dJ8_indexOf_2_11 : decode cJ8_indexOf_2 11 = .ok (.iload_n 1, 1) := dk_27 (dk_at dksJ8_indexOf_2_0 11 rfl rfl)
theorem dJ8_indexOf_2_12 : decode cJ8_indexOf_2 12 = .ok (.iload_n 2, 1) := dk_28 (dk_at dksJ8_indexOf_2_0 12 rfl rfl)
theorem dJ8_indexOf_2_13 : decode cJ8_indexOf_2 13 = .ok (.aload_n 0, 1) := dk_42 (dk_at dksJ8_indexOf_2_0 13 rfl rfl)
theorem dJ8_indexOf_2_14 : decode cJ8_indexOf_2 14 = .ok (.invokevirtual 505, 3) := dk_182 1 249 (dk_at dksJ8_indexOf_2_0 14 rfl rfl)
theorem dJ8_indexOf_2_17 : decode cJ8_indexOf_2 17 = .ok (.invokestatic 637, 3) := dk_184 2 125 (dk_at dksJ8_indexOf_2_0 17 rfl rfl)
theorem dJ8_indexOf_2_20 : decode cJ8_indexOf_2 20 = .ok (.goto 16, 3) := dk_167 0 16 (dk_at dksJ8_indexOf_2_0 20 rfl rfl)
theorem dJ8_indexOf_2_23 : decode cJ8_indexOf_2 23 = .ok (.aload_n 0, 1) := dk_42 (dk_at dksJ8_indexOf_2_0 23 rfl rfl)
theorem dJ8_indexOf_2_24 : decode cJ8_indexOf_2 24 = .ok (.getfield 9, 3) := dk_180 0 9 (dk_at dksJ8_indexOf_2_1 0 rfl rfl)
theorem dJ8_indexOf_2_27 : decode cJ8_indexOf_2 27 = .ok (.iload_n 1, 1) := dk_27 (dk_at dksJ8_indexOf_2_1 3 rfl rfl)
theorem dJ8_indexOf_2_28 : decode cJ8_indexOf_2 28 = .ok (.iload_n 2, 1) := dk_28 (dk_at dksJ8_indexOf_2_1 4 rfl rfl)
theorem dJ8_indexOf_2_29 : decode cJ8_indexOf_2 29 = .ok (.aload_n 0, 1) := dk_42 (dk_at dksJ8_indexOf_2_1 5 rfl rfl)
theorem dJ8_indexOf_2_30 : decode cJ8_indexOf_2 30 = .ok (.invokevirtual 505, 3) := dk_182 1 249 (dk_at dksJ8_indexOf_2_1 6 rfl rfl)
theorem dJ8_indexOf_2_33 : decode cJ8_indexOf_2 33 = .ok (.invokestatic 640, 3) := dk_184 2 128 (dk_at dksJ8_indexOf_2_1 9 rfl rfl)
theorem dJ8_indexOf_2_36 : decode cJ8_indexOf_2 36 = .ok (.ireturn, 1) := dk_172 (dk_at dksJ8_indexOf_2_1 12 rfl rfl)
abbrev cJ8_length : ByteArray := prog_26_method_54_code
def yJ8_length : MethodName := ⟨RJ8, "length", "()I"⟩
def dkwJ8_length_0 : List UInt8 := [42, 180, 0, 9, 190, 42, 182, 1, 79, 122, 172]
abbrev dktJ8_length_0 : List UInt8 := dkwJ8_length_0 ++ []
theorem dksJ8_length_0 : cJ8_length.data.toList.drop 0 = dktJ8_length_0 := by decide +kernel
theorem dJ8_length_0 : decode cJ8_length 0 = .ok (.aload_n 0, 1) := dk_42 (dk_at dksJ8_length_0 0 rfl rfl)
theorem dJ8_length_1 : decode cJ8_length 1 = .ok (.getfield 9, 3) := dk_180 0 9 (dk_at dksJ8_length_0 1 rfl rfl)
theorem dJ8_length_4 : decode cJ8_length 4 = .ok (.arraylength, 1) := dk_190 (dk_at dksJ8_length_0 4 rfl rfl)
theorem dJ8_length_5 : decode cJ8_length 5 = .ok (.aload_n 0, 1) := dk_42 (dk_at dksJ8_length_0 5 rfl rfl)
theorem dJ8_length_6 : decode cJ8_length 6 = .ok (.invokevirtual 335, 3) := dk_182 1 79 (dk_at dksJ8_length_0 6 rfl rfl)
theorem dJ8_length_9 : decode cJ8_length 9 = .ok (.ishr, 1) := dk_122 (dk_at dksJ8_length_0 9 rfl rfl)
theorem dJ8_length_10 : decode cJ8_length 10 = .ok (.ireturn, 1) := dk_172 (dk_at dksJ8_length_0 10 rfl rfl)
abbrev cJ8_coder : ByteArray := prog_26_method_152_code
def yJ8_coder : MethodName := ⟨RJ8, "coder", "()B"⟩
def dkwJ8_coder_0 : List UInt8 := [178, 0, 38, 153, 0, 10, 42, 180, 0, 15, 167, 0, 4, 4, 172]
abbrev dktJ8_coder_0 : List UInt8 := dkwJ8_coder_0 ++ []
theorem dksJ8_coder_0 : cJ8_coder.data.toList.drop 0 = dktJ8_coder_0 := by decide +kernel
theorem dJ8_coder_0 : decode cJ8_coder 0 = .ok (.getstatic 38, 3) := dk_178 0 38 (dk_at dksJ8_coder_0 0 rfl rfl)
theorem dJ8_coder_3 : decode cJ8_coder 3 = .ok (.ifCond .eq 10, 3) := dk_153 0 10 (dk_at dksJ8_coder_0 3 rfl rfl)
theorem dJ8_coder_6 : decode cJ8_coder 6 = .ok (.aload_n 0, 1) := dk_42 (dk_at dksJ8_coder_0 6 rfl rfl)
theorem dJ8_coder_7 : decode cJ8_coder 7 = .ok (.getfield 15, 3) := dk_180 0 15 (dk_at dksJ8_coder_0 7 rfl rfl)
theorem dJ8_coder_10 : decode cJ8_coder 10 = .ok (.goto 4, 3) := dk_167 0 4 (dk_at dksJ8_coder_0 10 rfl rfl)
theorem dJ8_coder_13 : decode cJ8_coder 13 = .ok (.iconst 1, 1) := dk_4 (dk_at dksJ8_coder_0 13 rfl rfl)
theorem dJ8_coder_14 : decode cJ8_coder 14 = .ok (.ireturn, 1) := dk_172 (dk_at dksJ8_coder_0 14 rfl rfl)
abbrev cJ8_checkBoundsBeginEnd : ByteArray := prog_26_method_158_code
def yJ8_checkBoundsBeginEnd : MethodName := ⟨RJ8, "checkBoundsBeginEnd", "(III)V"⟩
def dkwJ8_checkBoundsBeginEnd_0 : List UInt8 := [26, 27, 28, 178, 4, 29, 184, 4, 38, 87, 177]
abbrev dktJ8_checkBoundsBeginEnd_0 : List UInt8 := dkwJ8_checkBoundsBeginEnd_0 ++ []
theorem dksJ8_checkBoundsBeginEnd_0 : cJ8_checkBoundsBeginEnd.data.toList.drop 0 = dktJ8_checkBoundsBeginEnd_0 := by decide +kernel
theorem dJ8_checkBoundsBeginEnd_0 : decode cJ8_checkBoundsBeginEnd 0 = .ok (.iload_n 0, 1) := dk_26 (dk_at dksJ8_checkBoundsBeginEnd_0 0 rfl rfl)
theorem dJ8_checkBoundsBeginEnd_1 : decode cJ8_checkBoundsBeginEnd 1 = .ok (.iload_n 1, 1) := dk_27 (dk_at dksJ8_checkBoundsBeginEnd_0 1 rfl rfl)
theorem dJ8_checkBoundsBeginEnd_2 : decode cJ8_checkBoundsBeginEnd 2 = .ok (.iload_n 2, 1) := dk_28 (dk_at dksJ8_checkBoundsBeginEnd_0 2 rfl rfl)
theorem dJ8_checkBoundsBeginEnd_3 : decode cJ8_checkBoundsBeginEnd 3 = .ok (.getstatic 1053, 3) := dk_178 4 29 (dk_at dksJ8_checkBoundsBeginEnd_0 3 rfl rfl)
theorem dJ8_checkBoundsBeginEnd_6 : decode cJ8_checkBoundsBeginEnd 6 = .ok (.invokestatic 1062, 3) := dk_184 4 38 (dk_at dksJ8_checkBoundsBeginEnd_0 6 rfl rfl)
theorem dJ8_checkBoundsBeginEnd_9 : decode cJ8_checkBoundsBeginEnd 9 = .ok (.pop, 1) := dk_87 (dk_at dksJ8_checkBoundsBeginEnd_0 9 rfl rfl)
theorem dJ8_checkBoundsBeginEnd_10 : decode cJ8_checkBoundsBeginEnd 10 = .ok (.return_, 1) := dk_177 (dk_at dksJ8_checkBoundsBeginEnd_0 10 rfl rfl)
abbrev cJ8_checkBoundsOffCount : ByteArray := prog_26_method_157_code
def yJ8_checkBoundsOffCount : MethodName := ⟨RJ8, "checkBoundsOffCount", "(III)I"⟩
def dkwJ8_checkBoundsOffCount_0 : List UInt8 := [26, 27, 28, 178, 4, 29, 184, 4, 41, 172]
abbrev dktJ8_checkBoundsOffCount_0 : List UInt8 := dkwJ8_checkBoundsOffCount_0 ++ []
theorem dksJ8_checkBoundsOffCount_0 : cJ8_checkBoundsOffCount.data.toList.drop 0 = dktJ8_checkBoundsOffCount_0 := by decide +kernel
theorem dJ8_checkBoundsOffCount_0 : decode cJ8_checkBoundsOffCount 0 = .ok (.iload_n 0, 1) := dk_26 (dk_at dksJ8_checkBoundsOffCount_0 0 rfl rfl)
theorem dJ8_checkBoundsOffCount_1 : decode cJ8_checkBoundsOffCount 1 = .ok (.iload_n 1, 1) := dk_27 (dk_at dksJ8_checkBoundsOffCount_0 1 rfl rfl)
theorem dJ8_checkBoundsOffCount_2 : decode cJ8_checkBoundsOffCount 2 = .ok (.iload_n 2, 1) := dk_28 (dk_at dksJ8_checkBoundsOffCount_0 2 rfl rfl)
theorem dJ8_checkBoundsOffCount_3 : decode cJ8_checkBoundsOffCount 3 = .ok (.getstatic 1053, 3) := dk_178 4 29 (dk_at dksJ8_checkBoundsOffCount_0 3 rfl rfl)
theorem dJ8_checkBoundsOffCount_6 : decode cJ8_checkBoundsOffCount 6 = .ok (.invokestatic 1065, 3) := dk_184 4 41 (dk_at dksJ8_checkBoundsOffCount_0 6 rfl rfl)
theorem dJ8_checkBoundsOffCount_9 : decode cJ8_checkBoundsOffCount 9 = .ok (.ireturn, 1) := dk_172 (dk_at dksJ8_checkBoundsOffCount_0 9 rfl rfl)
abbrev cJ8_getBytes : ByteArray := prog_26_method_147_code
def yJ8_getBytes : MethodName := ⟨RJ8, "getBytes", "([BIB)V"⟩
def dkwJ8_getBytes_1 : List UInt8 := [184, 0, 212, 167, 0, 18, 42, 180, 0, 9, 3, 43, 28, 42, 180, 0, 9, 190, 184, 0, 106, 177]
abbrev dktJ8_getBytes_1 : List UInt8 := dkwJ8_getBytes_1 ++ []
def dkwJ8_getBytes_0 : List UInt8 := [42, 182, 1, 79, 29, 160, 0, 23, 42, 180, 0, 9, 3, 43, 28, 29, 120, 42, 180, 0, 9, 190]
abbrev dktJ8_getBytes_0 : List UInt8 := dkwJ8_getBytes_0 ++ dktJ8_getBytes_1
theorem dksJ8_getBytes_0 : cJ8_getBytes.data.toList.drop 0 = dktJ8_getBytes_0 := by decide +kernel
theorem dksJ8_getBytes_1 : cJ8_getBytes.data.toList.drop 22 = dktJ8_getBytes_1 := dk_seg dksJ8_getBytes_0 22 rfl rfl
theorem dJ8_getBytes_0 : decode cJ8_getBytes 0 = .ok (.aload_n 0, 1) := dk_42 (dk_at dksJ8_getBytes_0 0 rfl rfl)
theorem dJ8_getBytes_1 : decode cJ8_getBytes 1 = .ok (.invokevirtual 335, 3) := dk_182 1 79 (dk_at dksJ8_getBytes_0 1 rfl rfl)
theorem dJ8_getBytes_4 : decode cJ8_getBytes 4 = .ok (.iload_n 3, 1) := dk_29 (dk_at dksJ8_getBytes_0 4 rfl rfl)
theorem dJ8_getBytes_5 : decode cJ8_getBytes 5 = .ok (.if_icmp .ne 23, 3) := dk_160 0 23 (dk_at dksJ8_getBytes_0 5 rfl rfl)
theorem dJ8_getBytes_8 : decode cJ8_getBytes 8 = .ok (.aload_n 0, 1) := dk_42 (dk_at dksJ8_getBytes_0 8 rfl rfl)
theorem dJ8_getBytes_9 : decode cJ8_getBytes 9 = .ok (.getfield 9, 3) := dk_180 0 9 (dk_at dksJ8_getBytes_0 9 rfl rfl)
theorem dJ8_getBytes_12 : decode cJ8_getBytes 12 = .ok (.iconst 0, 1) := dk_3 (dk_at dksJ8_getBytes_0 12 rfl rfl)
theorem dJ8_getBytes_13 : decode cJ8_getBytes 13 = .ok (.aload_n 1, 1) := dk_43 (dk_at dksJ8_getBytes_0 13 rfl rfl)
theorem dJ8_getBytes_14 : decode cJ8_getBytes 14 = .ok (.iload_n 2, 1) := dk_28 (dk_at dksJ8_getBytes_0 14 rfl rfl)
theorem dJ8_getBytes_15 : decode cJ8_getBytes 15 = .ok (.iload_n 3, 1) := dk_29 (dk_at dksJ8_getBytes_0 15 rfl rfl)
theorem dJ8_getBytes_16 : decode cJ8_getBytes 16 = .ok (.ishl, 1) := dk_120 (dk_at dksJ8_getBytes_0 16 rfl rfl)
theorem dJ8_getBytes_17 : decode cJ8_getBytes 17 = .ok (.aload_n 0, 1) := dk_42 (dk_at dksJ8_getBytes_0 17 rfl rfl)
theorem dJ8_getBytes_18 : decode cJ8_getBytes 18 = .ok (.getfield 9, 3) := dk_180 0 9 (dk_at dksJ8_getBytes_0 18 rfl rfl)
theorem dJ8_getBytes_21 : decode cJ8_getBytes 21 = .ok (.arraylength, 1) := dk_190 (dk_at dksJ8_getBytes_0 21 rfl rfl)
theorem dJ8_getBytes_22 : decode cJ8_getBytes 22 = .ok (.invokestatic 212, 3) := dk_184 0 212 (dk_at dksJ8_getBytes_1 0 rfl rfl)
theorem dJ8_getBytes_25 : decode cJ8_getBytes 25 = .ok (.goto 18, 3) := dk_167 0 18 (dk_at dksJ8_getBytes_1 3 rfl rfl)
theorem dJ8_getBytes_28 : decode cJ8_getBytes 28 = .ok (.aload_n 0, 1) := dk_42 (dk_at dksJ8_getBytes_1 6 rfl rfl)
theorem dJ8_getBytes_29 : decode cJ8_getBytes 29 = .ok (.getfield 9, 3) := dk_180 0 9 (dk_at dksJ8_getBytes_1 7 rfl rfl)
theorem dJ8_getBytes_32 : decode cJ8_getBytes 32 = .ok (.iconst 0, 1) := dk_3 (dk_at dksJ8_getBytes_1 10 rfl rfl)
theorem dJ8_getBytes_33 : decode cJ8_getBytes 33 = .ok (.aload_n 1, 1) := dk_43 (dk_at dksJ8_getBytes_1 11 rfl rfl)
theorem dJ8_getBytes_34 : decode cJ8_getBytes 34 = .ok (.iload_n 2, 1) := dk_28 (dk_at dksJ8_getBytes_1 12 rfl rfl)
theorem dJ8_getBytes_35 : decode cJ8_getBytes 35 = .ok (.aload_n 0, 1) := dk_42 (dk_at dksJ8_getBytes_1 13 rfl rfl)
theorem dJ8_getBytes_36 : decode cJ8_getBytes 36 = .ok (.getfield 9, 3) := dk_180 0 9 (dk_at dksJ8_getBytes_1 14 rfl rfl)
theorem dJ8_getBytes_39 : decode cJ8_getBytes 39 = .ok (.arraylength, 1) := dk_190 (dk_at dksJ8_getBytes_1 17 rfl rfl)
theorem dJ8_getBytes_40 : decode cJ8_getBytes 40 = .ok (.invokestatic 106, 3) := dk_184 0 106 (dk_at dksJ8_getBytes_1 18 rfl rfl)
theorem dJ8_getBytes_43 : decode cJ8_getBytes 43 = .ok (.return_, 1) := dk_177 (dk_at dksJ8_getBytes_1 21 rfl rfl)
abbrev cJ8_init : ByteArray := prog_26_method_53_code
def yJ8_init : MethodName := ⟨RJ8, "<init>", "(Ljava/lang/StringBuilder;)V"⟩
def dkwJ8_init_0 : List UInt8 := [42, 43, 1, 183, 1, 233, 177]
abbrev dktJ8_init_0 : List UInt8 := dkwJ8_init_0 ++ []
theorem dksJ8_init_0 : cJ8_init.data.toList.drop 0 = dktJ8_init_0 := by decide +kernel
theorem dJ8_init_0 : decode cJ8_init 0 = .ok (.aload_n 0, 1) := dk_42 (dk_at dksJ8_init_0 0 rfl rfl)
theorem dJ8_init_1 : decode cJ8_init 1 = .ok (.aload_n 1, 1) := dk_43 (dk_at dksJ8_init_0 1 rfl rfl)
theorem dJ8_init_2 : decode cJ8_init 2 = .ok (.aconst_null, 1) := dk_1 (dk_at dksJ8_init_0 2 rfl rfl)
theorem dJ8_init_3 : decode cJ8_init 3 = .ok (.invokespecial 489, 3) := dk_183 1 233 (dk_at dksJ8_init_0 3 rfl rfl)
theorem dJ8_init_6 : decode cJ8_init 6 = .ok (.return_, 1) := dk_177 (dk_at dksJ8_init_0 6 rfl rfl)
abbrev cJ8_init_2 : ByteArray := prog_26_method_150_code
def yJ8_init_2 : MethodName := ⟨RJ8, "<init>", "(Ljava/lang/AbstractStringBuilder;Ljava/lang/Void;)V"⟩
def dkwJ8_init_2_4 : List UInt8 := [181, 0, 9, 177]
abbrev dktJ8_init_2_4 : List UInt8 := dkwJ8_init_2_4 ++ []
def dkwJ8_init_2_3 : List UInt8 := [184, 0, 47, 181, 0, 15, 177, 42, 4, 181, 0, 15, 42, 45, 3, 21, 4, 4, 120, 184, 0, 54]
abbrev dktJ8_init_2_3 : List UInt8 := dkwJ8_init_2_3 ++ dktJ8_init_2_4
def dkwJ8_init_2_2 : List UInt8 := [180, 4, 24, 153, 0, 28, 42, 45, 3, 21, 4, 184, 4, 27, 181, 0, 9, 42, 42, 180, 0, 9, 21, 4]
abbrev dktJ8_init_2_2 : List UInt8 := dkwJ8_init_2_2 ++ dktJ8_init_2_3
def dkwJ8_init_2_1 : List UInt8 := [181, 0, 15, 42, 45, 3, 21, 4, 184, 0, 54, 181, 0, 9, 167, 0, 59, 178, 0, 38, 153, 0, 35, 43]
abbrev dktJ8_init_2_1 : List UInt8 := dkwJ8_init_2_1 ++ dktJ8_init_2_2
def dkwJ8_init_2_0 : List UInt8 := [42, 183, 0, 1, 43, 182, 2, 40, 78, 43, 182, 2, 37, 54, 4, 43, 182, 4, 23, 153, 0, 22, 42, 3]
abbrev dktJ8_init_2_0 : List UInt8 := dkwJ8_init_2_0 ++ dktJ8_init_2_1
theorem dksJ8_init_2_0 : cJ8_init_2.data.toList.drop 0 = dktJ8_init_2_0 := by decide +kernel
theorem dksJ8_init_2_1 : cJ8_init_2.data.toList.drop 24 = dktJ8_init_2_1 := dk_seg dksJ8_init_2_0 24 rfl rfl
theorem dksJ8_init_2_2 : cJ8_init_2.data.toList.drop 48 = dktJ8_init_2_2 := dk_seg dksJ8_init_2_1 24 rfl rfl
theorem dksJ8_init_2_3 : cJ8_init_2.data.toList.drop 72 = dktJ8_init_2_3 := dk_seg dksJ8_init_2_2 24 rfl rfl
theorem dksJ8_init_2_4 : cJ8_init_2.data.toList.drop 94 = dktJ8_init_2_4 := dk_seg dksJ8_init_2_3 22 rfl rfl
theorem dJ8_init_2_0 : decode cJ8_init_2 0 = .ok (.aload_n 0, 1) := dk_42 (dk_at dksJ8_init_2_0 0 rfl rfl)
theorem dJ8_init_2_1 : decode cJ8_init_2 1 = .ok (.invokespecial 1, 3) := dk_183 0 1 (dk_at dksJ8_init_2_0 1 rfl rfl)
theorem dJ8_init_2_4 : decode cJ8_init_2 4 = .ok (.aload_n 1, 1) := dk_43 (dk_at dksJ8_init_2_0 4 rfl rfl)
theorem dJ8_init_2_5 : decode cJ8_init_2 5 = .ok (.invokevirtual 552, 3) := dk_182 2 40 (dk_at dksJ8_init_2_0 5 rfl rfl)
theorem dJ8_init_2_8 : decode cJ8_init_2 8 = .ok (.astore_n 3, 1) := dk_78 (dk_at dksJ8_init_2_0 8 rfl rfl)
theorem dJ8_init_2_9 : decode cJ8_init_2 9 = .ok (.aload_n 1, 1) := dk_43 (dk_at dksJ8_init_2_0 9 rfl rfl)
theorem dJ8_init_2_10 : decode cJ8_init_2 10 = .ok (.invokevirtual 549, 3) := dk_182 2 37 (dk_at dksJ8_init_2_0 10 rfl rfl)
theorem dJ8_init_2_13 : decode cJ8_init_2 13 = .ok (.istore 4, 2) := dk_54 4 (dk_at dksJ8_init_2_0 13 rfl rfl)
theorem dJ8_init_2_15 : decode cJ8_init_2 15 = .ok (.aload_n 1, 1) := dk_43 (dk_at dksJ8_init_2_0 15 rfl rfl)
theorem dJ8_init_2_16 : decode cJ8_init_2 16 = .ok (.invokevirtual 1047, 3) := dk_182 4 23 (dk_at dksJ8_init_2_0 16 rfl rfl)
theorem dJ8_init_2_19 : decode cJ8_init_2 19 = .ok (.ifCond .eq 22, 3) := dk_153 0 22 (dk_at dksJ8_init_2_0 19 rfl rfl)
theorem dJ8_init_2_22 : decode cJ8_init_2 22 = .ok (.aload_n 0, 1) := dk_42 (dk_at dksJ8_init_2_0 22 rfl rfl)
theorem dJ8_init_2_23 : decode cJ8_init_2 23 = .ok (.iconst 0, 1) := dk_3 (dk_at dksJ8_init_2_0 23 rfl rfl)
theorem dJ8_init_2_24 : decode cJ8_init_2 24 = .ok (.putfield 15, 3) := dk_181 0 15 (dk_at dksJ8_init_2_1 0 rfl rfl)
theorem dJ8_init_2_27 : decode cJ8_init_2 27 = .ok (.aload_n 0, 1) := dk_42 (dk_at dksJ8_init_2_1 3 rfl rfl)
theorem dJ8_init_2_28 : decode cJ8_init_2 28 = .ok (.aload_n 3, 1) := dk_45 (dk_at dksJ8_init_2_1 4 rfl rfl)
theorem dJ8_init_2_29 : decode cJ8_init_2 29 = .ok (.iconst 0, 1) := dk_3 (dk_at dksJ8_init_2_1 5 rfl rfl)
theorem dJ8_init_2_30 : decode cJ8_init_2 30 = .ok (.iload 4, 2) := dk_21 4 (dk_at dksJ8_init_2_1 6 rfl rfl)
theorem dJ8_init_2_32 : decode cJ8_init_2 32 = .ok (.invokestatic 54, 3) := dk_184 0 54 (dk_at dksJ8_init_2_1 8 rfl rfl)
theorem dJ8_init_2_35 : decode cJ8_init_2 35 = .ok (.putfield 9, 3) := dk_181 0 9 (dk_at dksJ8_init_2_1 11 rfl rfl)
theorem dJ8_init_2_38 : decode cJ8_init_2 38 = .ok (.goto 59, 3) := dk_167 0 59 (dk_at dksJ8_init_2_1 14 rfl rfl)
theorem dJ8_init_2_41 : decode cJ8_init_2 41 = .ok (.getstatic 38, 3) := dk_178 0 38 (dk_at dksJ8_init_2_1 17 rfl rfl)
theorem dJ8_init_2_44 : decode cJ8_init_2 44 = .ok (.ifCond .eq 35, 3) := dk_153 0 35 (dk_at dksJ8_init_2_1 20 rfl rfl)
theorem dJ8_init_2_47 : decode cJ8_init_2 47 = .ok (.aload_n 1, 1) := dk_43 (dk_at dksJ8_init_2_1 23 rfl rfl)
theorem dJ8_init_2_48 : decode cJ8_init_2 48 = .ok (.getfield 1048, 3) := dk_180 4 24 (dk_at dksJ8_init_2_2 0 rfl rfl)
theorem dJ8_init_2_51 : decode cJ8_init_2 51 = .ok (.ifCond .eq 28, 3) := dk_153 0 28 (dk_at dksJ8_init_2_2 3 rfl rfl)
theorem dJ8_init_2_54 : decode cJ8_init_2 54 = .ok (.aload_n 0, 1) := dk_42 (dk_at dksJ8_init_2_2 6 rfl rfl)
theorem dJ8_init_2_55 : decode cJ8_init_2 55 = .ok (.aload_n 3, 1) := dk_45 (dk_at dksJ8_init_2_2 7 rfl rfl)
theorem dJ8_init_2_56 : decode cJ8_init_2 56 = .ok (.iconst 0, 1) := dk_3 (dk_at dksJ8_init_2_2 8 rfl rfl)
theorem dJ8_init_2_57 : decode cJ8_init_2 57 = .ok (.iload 4, 2) := dk_21 4 (dk_at dksJ8_init_2_2 9 rfl rfl)
theorem dJ8_init_2_59 : decode cJ8_init_2 59 = .ok (.invokestatic 1051, 3) := dk_184 4 27 (dk_at dksJ8_init_2_2 11 rfl rfl)
theorem dJ8_init_2_62 : decode cJ8_init_2 62 = .ok (.putfield 9, 3) := dk_181 0 9 (dk_at dksJ8_init_2_2 14 rfl rfl)
theorem dJ8_init_2_65 : decode cJ8_init_2 65 = .ok (.aload_n 0, 1) := dk_42 (dk_at dksJ8_init_2_2 17 rfl rfl)
theorem dJ8_init_2_66 : decode cJ8_init_2 66 = .ok (.aload_n 0, 1) := dk_42 (dk_at dksJ8_init_2_2 18 rfl rfl)
theorem dJ8_init_2_67 : decode cJ8_init_2 67 = .ok (.getfield 9, 3) := dk_180 0 9 (dk_at dksJ8_init_2_2 19 rfl rfl)
theorem dJ8_init_2_70 : decode cJ8_init_2 70 = .ok (.iload 4, 2) := dk_21 4 (dk_at dksJ8_init_2_2 22 rfl rfl)
theorem dJ8_init_2_72 : decode cJ8_init_2 72 = .ok (.invokestatic 47, 3) := dk_184 0 47 (dk_at dksJ8_init_2_3 0 rfl rfl)
theorem dJ8_init_2_75 : decode cJ8_init_2 75 = .ok (.putfield 15, 3) := dk_181 0 15 (dk_at dksJ8_init_2_3 3 rfl rfl)
theorem dJ8_init_2_78 : decode cJ8_init_2 78 = .ok (.return_, 1) := dk_177 (dk_at dksJ8_init_2_3 6 rfl rfl)
theorem dJ8_init_2_79 : decode cJ8_init_2 79 = .ok (.aload_n 0, 1) := dk_42 (dk_at dksJ8_init_2_3 7 rfl rfl)
theorem dJ8_init_2_80 : decode cJ8_init_2 80 = .ok (.iconst 1, 1) := dk_4 (dk_at dksJ8_init_2_3 8 rfl rfl)
theorem dJ8_init_2_81 : decode cJ8_init_2 81 = .ok (.putfield 15, 3) := dk_181 0 15 (dk_at dksJ8_init_2_3 9 rfl rfl)
theorem dJ8_init_2_84 : decode cJ8_init_2 84 = .ok (.aload_n 0, 1) := dk_42 (dk_at dksJ8_init_2_3 12 rfl rfl)
theorem dJ8_init_2_85 : decode cJ8_init_2 85 = .ok (.aload_n 3, 1) := dk_45 (dk_at dksJ8_init_2_3 13 rfl rfl)
theorem dJ8_init_2_86 : decode cJ8_init_2 86 = .ok (.iconst 0, 1) := dk_3 (dk_at dksJ8_init_2_3 14 rfl rfl)
theorem dJ8_init_2_87 : decode cJ8_init_2 87 = .ok (.iload 4, 2) := dk_21 4 (dk_at dksJ8_init_2_3 15 rfl rfl)
theorem dJ8_init_2_89 : decode cJ8_init_2 89 = .ok (.iconst 1, 1) := dk_4 (dk_at dksJ8_init_2_3 17 rfl rfl)
theorem dJ8_init_2_90 : decode cJ8_init_2 90 = .ok (.ishl, 1) := dk_120 (dk_at dksJ8_init_2_3 18 rfl rfl)
theorem dJ8_init_2_91 : decode cJ8_init_2 91 = .ok (.invokestatic 54, 3) := dk_184 0 54 (dk_at dksJ8_init_2_3 19 rfl rfl)
theorem dJ8_init_2_94 : decode cJ8_init_2 94 = .ok (.putfield 9, 3) := dk_181 0 9 (dk_at dksJ8_init_2_4 0 rfl rfl)
theorem dJ8_init_2_97 : decode cJ8_init_2 97 = .ok (.return_, 1) := dk_177 (dk_at dksJ8_init_2_4 3 rfl rfl)
theorem q130 : (Jvm.Cond.initialized "java/lang/String") ∈ lw_all := lw_g (lw_at lw_m1 13 rfl) rfl
theorem q371 : (Jvm.Cond.instanceMethod ({ cls := "java/lang/String", name := "charAt", desc := "(I)C" } : Jvm.MethodName)) ∈ lw_all := lw_g (lw_at lw_m2 14 rfl) rfl
theorem q372 : (Jvm.Cond.selects "java/lang/String" ({ cls := "java/lang/String", name := "charAt", desc := "(I)C" } : Jvm.MethodName) ({ cls := "java/lang/String", name := "charAt", desc := "(I)C" } : Jvm.MethodName)) ∈ lw_all := lw_g (lw_at lw_m2 15 rfl) rfl
theorem q373 : (Jvm.Cond.code ({ cls := "java/lang/String", name := "charAt", desc := "(I)C" } : Jvm.MethodName) prog_26_method_56_code (2 : Nat) (Option.some Jvm.ClassFile.FieldType.char)) ∈ lw_all := lw_g (lw_at lw_m2 16 rfl) rfl
theorem q374 : (Jvm.Cond.methodLink "java/lang/String" (492 : Nat) ({ cls := "java/lang/String", name := "isLatin1", desc := "()Z" } : Jvm.MethodName)) ∈ lw_all := lw_g (lw_at lw_m2 17 rfl) rfl
theorem q375 : (Jvm.Cond.instanceMethod ({ cls := "java/lang/String", name := "isLatin1", desc := "()Z" } : Jvm.MethodName)) ∈ lw_all := lw_g (lw_at lw_m2 18 rfl) rfl
theorem q376 : (Jvm.Cond.selects "java/lang/String" ({ cls := "java/lang/String", name := "isLatin1", desc := "()Z" } : Jvm.MethodName) ({ cls := "java/lang/String", name := "isLatin1", desc := "()Z" } : Jvm.MethodName)) ∈ lw_all := lw_g (lw_at lw_m2 19 rfl) rfl
theorem q377 : (Jvm.Cond.code ({ cls := "java/lang/String", name := "isLatin1", desc := "()Z" } : Jvm.MethodName) prog_26_method_154_code (1 : Nat) (Option.some Jvm.ClassFile.FieldType.boolean)) ∈ lw_all := lw_g (lw_at lw_m2 20 rfl) rfl
theorem q378 : (Jvm.Cond.fieldLink "java/lang/String" (38 : Nat) "java/lang/String" "COMPACT_STRINGS" "Z") ∈ lw_all := lw_g (lw_at lw_m2 21 rfl) rfl
theorem q379 : (Jvm.Cond.laysStatic "java/lang/String" "COMPACT_STRINGS" "Z") ∈ lw_tbl := lw_at lw_m2 22 rfl
theorem q380 : (Jvm.Cond.methodLink "java/lang/String" (495 : Nat) ({ cls := "java/lang/StringLatin1", name := "charAt", desc := "([BI)C" } : Jvm.MethodName)) ∈ lw_all := lw_g (lw_at lw_m2 23 rfl) rfl
theorem q384 : (Jvm.Cond.static ({ cls := "java/lang/String", name := "checkIndex", desc := "(II)V" } : Jvm.MethodName)) ∈ lw_all := lw_g (lw_at lw_m2 27 rfl) rfl
theorem q385 : (Jvm.Cond.code ({ cls := "java/lang/String", name := "checkIndex", desc := "(II)V" } : Jvm.MethodName) prog_26_method_155_code (2 : Nat) (Option.none : Option Jvm.ClassFile.FieldType)) ∈ lw_all := lw_g (lw_at lw_m2 28 rfl) rfl
theorem q386 : (Jvm.Cond.fieldLink "java/lang/String" (1053 : Nat) "jdk/internal/util/Preconditions" "SIOOBE_FORMATTER" "Ljava/util/function/BiFunction;") ∈ lw_all := lw_g (lw_at lw_m2 29 rfl) rfl
theorem q388 : (Jvm.Cond.methodLink "java/lang/String" (1059 : Nat) ({ cls := "jdk/internal/util/Preconditions", name := "checkIndex", desc := "(IILjava/util/function/BiFunction;)I" } : Jvm.MethodName)) ∈ lw_all := lw_g (lw_at lw_m2 31 rfl) rfl
theorem q391 : (Jvm.Cond.methodLink "java/lang/String" (498 : Nat) ({ cls := "java/lang/StringUTF16", name := "charAt", desc := "([BI)C" } : Jvm.MethodName)) ∈ lw_all := lw_g (lw_at lw_m2 34 rfl) rfl
theorem q592 : (Jvm.Cond.instanceMethod ({ cls := "java/lang/String", name := "indexOf", desc := "(I)I" } : Jvm.MethodName)) ∈ lw_all := lw_g (lw_at lw_m2 235 rfl) rfl
theorem q593 : (Jvm.Cond.selects "java/lang/String" ({ cls := "java/lang/String", name := "indexOf", desc := "(I)I" } : Jvm.MethodName) ({ cls := "java/lang/String", name := "indexOf", desc := "(I)I" } : Jvm.MethodName)) ∈ lw_all := lw_g (lw_at lw_m2 236 rfl) rfl
theorem q594 : (Jvm.Cond.code ({ cls := "java/lang/String", name := "indexOf", desc := "(I)I" } : Jvm.MethodName) prog_26_method_79_code (2 : Nat) (Option.some Jvm.ClassFile.FieldType.int)) ∈ lw_all := lw_g (lw_at lw_m2 237 rfl) rfl
theorem q595 : (Jvm.Cond.methodLink "java/lang/String" (633 : Nat) ({ cls := "java/lang/String", name := "indexOf", desc := "(II)I" } : Jvm.MethodName)) ∈ lw_all := lw_g (lw_at lw_m2 238 rfl) rfl
theorem q596 : (Jvm.Cond.instanceMethod ({ cls := "java/lang/String", name := "indexOf", desc := "(II)I" } : Jvm.MethodName)) ∈ lw_all := lw_g (lw_at lw_m2 239 rfl) rfl
theorem q597 : (Jvm.Cond.selects "java/lang/String" ({ cls := "java/lang/String", name := "indexOf", desc := "(II)I" } : Jvm.MethodName) ({ cls := "java/lang/String", name := "indexOf", desc := "(II)I" } : Jvm.MethodName)) ∈ lw_all := lw_g (lw_at lw_m3 0 rfl) rfl
theorem q598 : (Jvm.Cond.code ({ cls := "java/lang/String", name := "indexOf", desc := "(II)I" } : Jvm.MethodName) prog_26_method_80_code (3 : Nat) (Option.some Jvm.ClassFile.FieldType.int)) ∈ lw_all := lw_g (lw_at lw_m3 1 rfl) rfl
theorem q599 : (Jvm.Cond.methodLink "java/lang/String" (505 : Nat) ({ cls := "java/lang/String", name := "length", desc := "()I" } : Jvm.MethodName)) ∈ lw_all := lw_g (lw_at lw_m3 2 rfl) rfl
theorem q600 : (Jvm.Cond.instanceMethod ({ cls := "java/lang/String", name := "length", desc := "()I" } : Jvm.MethodName)) ∈ lw_all := lw_g (lw_at lw_m3 3 rfl) rfl
theorem q601 : (Jvm.Cond.selects "java/lang/String" ({ cls := "java/lang/String", name := "length", desc := "()I" } : Jvm.MethodName) ({ cls := "java/lang/String", name := "length", desc := "()I" } : Jvm.MethodName)) ∈ lw_all := lw_g (lw_at lw_m3 4 rfl) rfl
theorem q602 : (Jvm.Cond.code ({ cls := "java/lang/String", name := "length", desc := "()I" } : Jvm.MethodName) prog_26_method_54_code (1 : Nat) (Option.some Jvm.ClassFile.FieldType.int)) ∈ lw_all := lw_g (lw_at lw_m3 5 rfl) rfl
theorem q603 : (Jvm.Cond.methodLink "java/lang/String" (335 : Nat) ({ cls := "java/lang/String", name := "coder", desc := "()B" } : Jvm.MethodName)) ∈ lw_all := lw_g (lw_at lw_m3 6 rfl) rfl
theorem q604 : (Jvm.Cond.instanceMethod ({ cls := "java/lang/String", name := "coder", desc := "()B" } : Jvm.MethodName)) ∈ lw_all := lw_g (lw_at lw_m3 7 rfl) rfl
theorem q605 : (Jvm.Cond.selects "java/lang/String" ({ cls := "java/lang/String", name := "coder", desc := "()B" } : Jvm.MethodName) ({ cls := "java/lang/String", name := "coder", desc := "()B" } : Jvm.MethodName)) ∈ lw_all := lw_g (lw_at lw_m3 8 rfl) rfl
theorem q606 : (Jvm.Cond.code ({ cls := "java/lang/String", name := "coder", desc := "()B" } : Jvm.MethodName) prog_26_method_152_code (1 : Nat) (Option.some Jvm.ClassFile.FieldType.byte)) ∈ lw_all := lw_g (lw_at lw_m3 9 rfl) rfl
theorem q607 : (Jvm.Cond.methodLink "java/lang/String" (637 : Nat) ({ cls := "java/lang/StringLatin1", name := "indexOf", desc := "([BIII)I" } : Jvm.MethodName)) ∈ lw_all := lw_g (lw_at lw_m3 10 rfl) rfl
theorem q622 : (Jvm.Cond.methodLink "java/lang/String" (640 : Nat) ({ cls := "java/lang/StringUTF16", name := "indexOf", desc := "([BIII)I" } : Jvm.MethodName)) ∈ lw_all := lw_g (lw_at lw_m3 25 rfl) rfl
theorem q635 : (Jvm.Cond.static ({ cls := "java/lang/String", name := "checkBoundsBeginEnd", desc := "(III)V" } : Jvm.MethodName)) ∈ lw_all := lw_g (lw_at lw_m3 38 rfl) rfl
theorem q636 : (Jvm.Cond.code ({ cls := "java/lang/String", name := "checkBoundsBeginEnd", desc := "(III)V" } : Jvm.MethodName) prog_26_method_158_code (3 : Nat) (Option.none : Option Jvm.ClassFile.FieldType)) ∈ lw_all := lw_g (lw_at lw_m3 39 rfl) rfl
theorem q637 : (Jvm.Cond.methodLink "java/lang/String" (1062 : Nat) ({ cls := "jdk/internal/util/Preconditions", name := "checkFromToIndex", desc := "(IIILjava/util/function/BiFunction;)I" } : Jvm.MethodName)) ∈ lw_all := lw_g (lw_at lw_m3 40 rfl) rfl
theorem q1178 : (Jvm.Cond.selects "java/lang/String" ({ cls := "java/lang/Object", name := "getClass", desc := "()Ljava/lang/Class;" } : Jvm.MethodName) ({ cls := "java/lang/Object", name := "getClass", desc := "()Ljava/lang/Class;" } : Jvm.MethodName)) ∈ lw_all := lw_g (lw_at lw_m5 101 rfl) rfl
theorem q1224 : (Jvm.Cond.fieldLink "java/lang/String" (1048 : Nat) "java/lang/AbstractStringBuilder" "maybeLatin1" "Z") ∈ lw_all := lw_g (lw_at lw_m5 147 rfl) rfl
theorem q1306 : (Jvm.Cond.static ({ cls := "java/lang/String", name := "checkBoundsOffCount", desc := "(III)I" } : Jvm.MethodName)) ∈ lw_all := lw_g (lw_at lw_m5 229 rfl) rfl
theorem q1307 : (Jvm.Cond.code ({ cls := "java/lang/String", name := "checkBoundsOffCount", desc := "(III)I" } : Jvm.MethodName) prog_26_method_157_code (3 : Nat) (Option.some Jvm.ClassFile.FieldType.int)) ∈ lw_all := lw_g (lw_at lw_m5 230 rfl) rfl
theorem q1308 : (Jvm.Cond.methodLink "java/lang/String" (1065 : Nat) ({ cls := "jdk/internal/util/Preconditions", name := "checkFromIndexSize", desc := "(IIILjava/util/function/BiFunction;)I" } : Jvm.MethodName)) ∈ lw_all := lw_g (lw_at lw_m5 231 rfl) rfl
theorem q1312 : (Jvm.Cond.instanceMethod ({ cls := "java/lang/String", name := "getBytes", desc := "([BIB)V" } : Jvm.MethodName)) ∈ lw_all := lw_g (lw_at lw_m5 235 rfl) rfl
theorem q1313 : (Jvm.Cond.selects "java/lang/String" ({ cls := "java/lang/String", name := "getBytes", desc := "([BIB)V" } : Jvm.MethodName) ({ cls := "java/lang/String", name := "getBytes", desc := "([BIB)V" } : Jvm.MethodName)) ∈ lw_all := lw_g (lw_at lw_m5 236 rfl) rfl
theorem q1314 : (Jvm.Cond.code ({ cls := "java/lang/String", name := "getBytes", desc := "([BIB)V" } : Jvm.MethodName) prog_26_method_147_code (4 : Nat) (Option.none : Option Jvm.ClassFile.FieldType)) ∈ lw_all := lw_g (lw_at lw_m5 237 rfl) rfl
theorem q1315 : (Jvm.Cond.methodLink "java/lang/String" (212 : Nat) ({ cls := "java/lang/System", name := "arraycopy", desc := "(Ljava/lang/Object;ILjava/lang/Object;II)V" } : Jvm.MethodName)) ∈ lw_all := lw_g (lw_at lw_m5 238 rfl) rfl
theorem q1316 : (Jvm.Cond.methodLink "java/lang/String" (106 : Nat) ({ cls := "java/lang/StringLatin1", name := "inflate", desc := "([BI[BII)V" } : Jvm.MethodName)) ∈ lw_all := lw_g (lw_at lw_m5 239 rfl) rfl
theorem q1323 : (Jvm.Cond.instantiable "java/lang/String" (4 : Nat)) ∈ lw_all := lw_g (lw_at lw_m6 6 rfl) rfl
theorem q1325 : (Jvm.Cond.instanceMethod ({ cls := "java/lang/String", name := "<init>", desc := "(Ljava/lang/StringBuilder;)V" } : Jvm.MethodName)) ∈ lw_all := lw_g (lw_at lw_m6 8 rfl) rfl
theorem q1326 : (Jvm.Cond.code ({ cls := "java/lang/String", name := "<init>", desc := "(Ljava/lang/StringBuilder;)V" } : Jvm.MethodName) prog_26_method_53_code (2 : Nat) (Option.none : Option Jvm.ClassFile.FieldType)) ∈ lw_all := lw_g (lw_at lw_m6 9 rfl) rfl
theorem q1327 : (Jvm.Cond.methodLink "java/lang/String" (489 : Nat) ({ cls := "java/lang/String", name := "<init>", desc := "(Ljava/lang/AbstractStringBuilder;Ljava/lang/Void;)V" } : Jvm.MethodName)) ∈ lw_all := lw_g (lw_at lw_m6 10 rfl) rfl
theorem q1328 : (Jvm.Cond.instanceMethod ({ cls := "java/lang/String", name := "<init>", desc := "(Ljava/lang/AbstractStringBuilder;Ljava/lang/Void;)V" } : Jvm.MethodName)) ∈ lw_all := lw_g (lw_at lw_m6 11 rfl) rfl
theorem q1329 : (Jvm.Cond.code ({ cls := "java/lang/String", name := "<init>", desc := "(Ljava/lang/AbstractStringBuilder;Ljava/lang/Void;)V" } : Jvm.MethodName) prog_26_method_150_code (5 : Nat) (Option.none : Option Jvm.ClassFile.FieldType)) ∈ lw_all := lw_g (lw_at lw_m6 12 rfl) rfl
theorem q1330 : (Jvm.Cond.methodLink "java/lang/String" (1 : Nat) ({ cls := "java/lang/Object", name := "<init>", desc := "()V" } : Jvm.MethodName)) ∈ lw_all := lw_g (lw_at lw_m6 13 rfl) rfl
theorem q1331 : (Jvm.Cond.methodLink "java/lang/String" (552 : Nat) ({ cls := "java/lang/AbstractStringBuilder", name := "getValue", desc := "()[B" } : Jvm.MethodName)) ∈ lw_all := lw_g (lw_at lw_m6 14 rfl) rfl
theorem q1336 : (Jvm.Cond.methodLink "java/lang/String" (549 : Nat) ({ cls := "java/lang/AbstractStringBuilder", name := "length", desc := "()I" } : Jvm.MethodName)) ∈ lw_all := lw_g (lw_at lw_m6 19 rfl) rfl
theorem q1344 : (Jvm.Cond.methodLink "java/lang/String" (1047 : Nat) ({ cls := "java/lang/AbstractStringBuilder", name := "isLatin1", desc := "()Z" } : Jvm.MethodName)) ∈ lw_all := lw_g (lw_at lw_m6 27 rfl) rfl
theorem q1345 : (Jvm.Cond.methodLink "java/lang/String" (54 : Nat) ({ cls := "java/util/Arrays", name := "copyOfRange", desc := "([BII)[B" } : Jvm.MethodName)) ∈ lw_all := lw_g (lw_at lw_m6 28 rfl) rfl
theorem q1354 : (Jvm.Cond.methodLink "java/lang/String" (1051 : Nat) ({ cls := "java/lang/StringUTF16", name := "compress", desc := "([BII)[B" } : Jvm.MethodName)) ∈ lw_all := lw_g (lw_at lw_m6 37 rfl) rfl
theorem q1361 : (Jvm.Cond.methodLink "java/lang/String" (47 : Nat) ({ cls := "java/lang/StringUTF16", name := "coderFromArrayLen", desc := "([BI)B" } : Jvm.MethodName)) ∈ lw_all := lw_g (lw_at lw_m6 44 rfl) rfl
theorem q1364 : (Jvm.Cond.fieldLink "java/lang/String" (9 : Nat) "java/lang/String" "value" "[B") ∈ lw_all := lw_g (lw_at lw_m6 47 rfl) rfl
theorem q1365 : (Jvm.Cond.fieldLink "java/lang/String" (15 : Nat) "java/lang/String" "coder" "B") ∈ lw_all := lw_g (lw_at lw_m6 48 rfl) rfl
theorem q1366 : (Jvm.Cond.laysFinal "java/lang/String" "java/lang/String" "value" "[B") ∈ lw_all := lw_g (lw_at lw_m6 49 rfl) rfl
theorem q1367 : (Jvm.Cond.soleField "java/lang/String" "value") ∈ lw_all := lw_g (lw_at lw_m6 50 rfl) rfl
theorem q1368 : (Jvm.Cond.laysFinal "java/lang/String" "java/lang/String" "coder" "B") ∈ lw_all := lw_g (lw_at lw_m6 51 rfl) rfl
theorem q1369 : (Jvm.Cond.soleField "java/lang/String" "coder") ∈ lw_all := lw_g (lw_at lw_m6 52 rfl) rfl
theorem q1370 : (Jvm.Cond.lays "java/lang/String" "java/lang/String" "hash" "I") ∈ lw_all := lw_g (lw_at lw_m6 53 rfl) rfl
theorem q1371 : (Jvm.Cond.soleField "java/lang/String" "hash") ∈ lw_all := lw_g (lw_at lw_m6 54 rfl) rfl
theorem q1372 : (Jvm.Cond.lays "java/lang/String" "java/lang/String" "hashIsZero" "Z") ∈ lw_all := lw_g (lw_at lw_m6 55 rfl) rfl
theorem q1373 : (Jvm.Cond.soleField "java/lang/String" "hashIsZero") ∈ lw_all := lw_g (lw_at lw_m6 56 rfl) rfl
theorem q1374 : (Jvm.Cond.superclass "java/lang/String" "java/lang/Object") ∈ lw_all := lw_g (lw_at lw_m6 57 rfl) rfl
theorem q2359 : (Jvm.Cond.castable "java/lang/String" "java/lang/Object") ∈ lw_tbl := lw_at lw_m10 82 rfl
theorem in_J8 : ∀ w ∈ wsJ80, w ∈ lw_all := lw_in wsJ80 [1366, 1368, 1370, 1372] (by decide +kernel) (by decide +kernel)
/-! java/lang/StringLatin1 -/
set_option maxRecDepth 100000
def RJ9 : String := "java/lang/StringLatin1"
abbrev cJ9_charAt : ByteArray := prog_28_method_2_code
def yJ9_charAt : MethodName := ⟨RJ9, "charAt", "([BI)C"⟩
def dkwJ9_charAt_0 : List UInt8 := [27, 42, 190, 184, 0, 9, 42, 27, 51, 17, 0, 255, 126, 146, 172]
abbrev dktJ9_charAt_0 : List UInt8 := dkwJ9_charAt_0 ++ []
theorem dksJ9_charAt_0 : cJ9_charAt.data.toList.drop 0 = dktJ9_charAt_0 := by decide +kernel
theorem dJ9_charAt_0 : decode cJ9_charAt 0 = .ok (.iload_n 1, 1) := dk_27 (dk_at dksJ9_charAt_0 0 rfl rfl)
theorem dJ9_charAt_1 : decode cJ9_charAt 1 = .ok (.aload_n 0, 1) := dk_42 (dk_at dksJ9_charAt_0 1 rfl rfl)
theorem dJ9_charAt_2 : decode cJ9_charAt 2 = .ok (.arraylength, 1) := dk_190 (dk_at dksJ9_charAt_0 2 rfl rfl)
theorem dJ9_charAt_3 : decode cJ9_charAt 3 = .ok (.invokestatic 9, 3) := dk_184 0 9 (dk_at dksJ9_charAt_0 3 rfl rfl)
theorem dJ9_charAt_6 : decode cJ9_charAt 6 = .ok (.aload_n 0, 1) := dk_42 (dk_at dksJ9_charAt_0 6 rfl rfl)
theorem dJ9_charAt_7 : decode cJ9_charAt 7 = .ok (.iload_n 1, 1) := dk_27 (dk_at dksJ9_charAt_0 7 rfl rfl)
theorem dJ9_charAt_8 : decode cJ9_charAt 8 = .ok (.baload, 1) := dk_51 (dk_at dksJ9_charAt_0 8 rfl rfl)
theorem dJ9_charAt_9 : decode cJ9_charAt 9 = .ok (.sipush 255, 3) := dk_17 0 255 (dk_at dksJ9_charAt_0 9 rfl rfl)
theorem dJ9_charAt_12 : decode cJ9_charAt 12 = .ok (.iand, 1) := dk_126 (dk_at dksJ9_charAt_0 12 rfl rfl)
theorem dJ9_charAt_13 : decode cJ9_charAt 13 = .ok (.i2c, 1) := dk_146 (dk_at dksJ9_charAt_0 13 rfl rfl)
theorem dJ9_charAt_14 : decode cJ9_charAt 14 = .ok (.ireturn, 1) := dk_172 (dk_at dksJ9_charAt_0 14 rfl rfl)
abbrev cJ9_indexOf : ByteArray := prog_28_method_22_code
def yJ9_indexOf : MethodName := ⟨RJ9, "indexOf", "([BIII)I"⟩
def dkwJ9_indexOf_1 : List UInt8 := [161, 0, 5, 2, 172, 42, 27, 28, 29, 184, 0, 95, 172]
abbrev dktJ9_indexOf_1 : List UInt8 := dkwJ9_indexOf_1 ++ []
def dkwJ9_indexOf_0 : List UInt8 := [27, 184, 0, 88, 154, 0, 5, 2, 172, 28, 3, 184, 0, 92, 61, 29, 42, 190, 184, 0, 38, 62, 28, 29]
abbrev dktJ9_indexOf_0 : List UInt8 := dkwJ9_indexOf_0 ++ dktJ9_indexOf_1
theorem dksJ9_indexOf_0 : cJ9_indexOf.data.toList.drop 0 = dktJ9_indexOf_0 := by decide +kernel
theorem dksJ9_indexOf_1 : cJ9_indexOf.data.toList.drop 24 = dktJ9_indexOf_1 := dk_seg dksJ9_indexOf_0 24 rfl rfl
theorem dJ9_indexOf_0 : decode cJ9_indexOf 0 = .ok (.iload_n 1, 1) := dk_27 (dk_at dksJ9_indexOf_0 0 rfl rfl)
theorem dJ9_indexOf_1 : decode cJ9_indexOf 1 = .ok (.invokestatic 88, 3) := dk_184 0 88 (dk_at dksJ9_indexOf_0 1 rfl rfl)
theorem dJ9_indexOf_4 : decode cJ9_indexOf 4 = .ok (.ifCond .ne 5, 3) := dk_154 0 5 (dk_at dksJ9_indexOf_0 4 rfl rfl)
theorem dJ9_indexOf_7 : decode cJ9_indexOf 7 = .ok (.iconst (-1), 1) := dk_2 (dk_at dksJ9_indexOf_0 7 rfl rfl)
theorem dJ9_indexOf_8 : decode cJ9_indexOf 8 = .ok (.ireturn, 1) := dk_172 (dk_at dksJ9_indexOf_0 8 rfl rfl)
theorem dJ9_indexOf_9 : decode cJ9_indexOf 9 = .ok (.iload_n 2, 1) := dk_28 (dk_at dksJ9_indexOf_0 9 rfl rfl)
theorem dJ9_indexOf_10 : decode cJ9_indexOf 10 = .ok (.iconst 0, 1) := dk_3 (dk_at dksJ9_indexOf_0 10 rfl rfl)
theorem dJ9_indexOf_11 : decode cJ9_indexOf 11 = .ok (.invokestatic 92, 3) := dk_184 0 92 (dk_at dksJ9_indexOf_0 11 rfl rfl)
theorem dJ9_indexOf_14 : decode cJ9_indexOf 14 = .ok (.istore_n 2, 1) := dk_61 (dk_at dksJ9_indexOf_0 14 rfl rfl)
theorem dJ9_indexOf_15 : decode cJ9_indexOf 15 = .ok (.iload_n 3, 1) := dk_29 (dk_at dksJ9_indexOf_0 15 rfl rfl)
theorem dJ9_indexOf_16 : decode cJ9_indexOf 16 = .ok (.aload_n 0, 1) := dk_42 (dk_at dksJ9_indexOf_0 16 rfl rfl)
theorem dJ9_indexOf_17 : decode cJ9_indexOf 17 = .ok (.arraylength, 1) := dk_190 (dk_at dksJ9_indexOf_0 17 rfl rfl)
theorem dJ9_indexOf_18 : decode cJ9_indexOf 18 = .ok (.invokestatic 38, 3) := dk_184 0 38 (dk_at dksJ9_indexOf_0 18 rfl rfl)
theorem dJ9_indexOf_21 : decode cJ9_indexOf 21 = .ok (.istore_n 3, 1) := dk_62 (dk_at dksJ9_indexOf_0 21 rfl rfl)
theorem dJ9_indexOf_22 : decode cJ9_indexOf 22 = .ok (.iload_n 2, 1) := dk_28 (dk_at dksJ9_indexOf_0 22 rfl rfl)
theorem dJ9_indexOf_23 : decode cJ9_indexOf 23 = .ok (.iload_n 3, 1) := dk_29 (dk_at dksJ9_indexOf_0 23 rfl rfl)
theorem dJ9_indexOf_24 : decode cJ9_indexOf 24 = .ok (.if_icmp .lt 5, 3) := dk_161 0 5 (dk_at dksJ9_indexOf_1 0 rfl rfl)
theorem dJ9_indexOf_27 : decode cJ9_indexOf 27 = .ok (.iconst (-1), 1) := dk_2 (dk_at dksJ9_indexOf_1 3 rfl rfl)
theorem dJ9_indexOf_28 : decode cJ9_indexOf 28 = .ok (.ireturn, 1) := dk_172 (dk_at dksJ9_indexOf_1 4 rfl rfl)
theorem dJ9_indexOf_29 : decode cJ9_indexOf 29 = .ok (.aload_n 0, 1) := dk_42 (dk_at dksJ9_indexOf_1 5 rfl rfl)
theorem dJ9_indexOf_30 : decode cJ9_indexOf 30 = .ok (.iload_n 1, 1) := dk_27 (dk_at dksJ9_indexOf_1 6 rfl rfl)
theorem dJ9_indexOf_31 : decode cJ9_indexOf 31 = .ok (.iload_n 2, 1) := dk_28 (dk_at dksJ9_indexOf_1 7 rfl rfl)
theorem dJ9_indexOf_32 : decode cJ9_indexOf 32 = .ok (.iload_n 3, 1) := dk_29 (dk_at dksJ9_indexOf_1 8 rfl rfl)
theorem dJ9_indexOf_33 : decode cJ9_indexOf 33 = .ok (.invokestatic 95, 3) := dk_184 0 95 (dk_at dksJ9_indexOf_1 9 rfl rfl)
theorem dJ9_indexOf_36 : decode cJ9_indexOf 36 = .ok (.ireturn, 1) := dk_172 (dk_at dksJ9_indexOf_1 12 rfl rfl)
abbrev cJ9_canEncode : ByteArray := prog_28_method_4_code
def yJ9_canEncode : MethodName := ⟨RJ9, "canEncode", "(I)Z"⟩
def dkwJ9_canEncode_0 : List UInt8 := [26, 155, 0, 14, 26, 17, 0, 255, 163, 0, 7, 4, 167, 0, 4, 3, 172]
abbrev dktJ9_canEncode_0 : List UInt8 := dkwJ9_canEncode_0 ++ []
theorem dksJ9_canEncode_0 : cJ9_canEncode.data.toList.drop 0 = dktJ9_canEncode_0 := by decide +kernel
theorem dJ9_canEncode_0 : decode cJ9_canEncode 0 = .ok (.iload_n 0, 1) := dk_26 (dk_at dksJ9_canEncode_0 0 rfl rfl)
theorem dJ9_canEncode_1 : decode cJ9_canEncode 1 = .ok (.ifCond .lt 14, 3) := dk_155 0 14 (dk_at dksJ9_canEncode_0 1 rfl rfl)
theorem dJ9_canEncode_4 : decode cJ9_canEncode 4 = .ok (.iload_n 0, 1) := dk_26 (dk_at dksJ9_canEncode_0 4 rfl rfl)
theorem dJ9_canEncode_5 : decode cJ9_canEncode 5 = .ok (.sipush 255, 3) := dk_17 0 255 (dk_at dksJ9_canEncode_0 5 rfl rfl)
theorem dJ9_canEncode_8 : decode cJ9_canEncode 8 = .ok (.if_icmp .gt 7, 3) := dk_163 0 7 (dk_at dksJ9_canEncode_0 8 rfl rfl)
theorem dJ9_canEncode_11 : decode cJ9_canEncode 11 = .ok (.iconst 1, 1) := dk_4 (dk_at dksJ9_canEncode_0 11 rfl rfl)
theorem dJ9_canEncode_12 : decode cJ9_canEncode 12 = .ok (.goto 4, 3) := dk_167 0 4 (dk_at dksJ9_canEncode_0 12 rfl rfl)
theorem dJ9_canEncode_15 : decode cJ9_canEncode 15 = .ok (.iconst 0, 1) := dk_3 (dk_at dksJ9_canEncode_0 15 rfl rfl)
theorem dJ9_canEncode_16 : decode cJ9_canEncode 16 = .ok (.ireturn, 1) := dk_172 (dk_at dksJ9_canEncode_0 16 rfl rfl)
abbrev cJ9_indexOfChar : ByteArray := prog_28_method_23_code
def yJ9_indexOfChar : MethodName := ⟨RJ9, "indexOfChar", "([BIII)I"⟩
def dkwJ9_indexOfChar_1 : List UInt8 := [172, 132, 5, 1, 167, 255, 235, 2, 172]
abbrev dktJ9_indexOfChar_1 : List UInt8 := dkwJ9_indexOfChar_1 ++ []
def dkwJ9_indexOfChar_0 : List UInt8 := [27, 145, 54, 4, 28, 54, 5, 21, 5, 29, 162, 0, 21, 42, 21, 5, 51, 21, 4, 160, 0, 6, 21, 5]
abbrev dktJ9_indexOfChar_0 : List UInt8 := dkwJ9_indexOfChar_0 ++ dktJ9_indexOfChar_1
theorem dksJ9_indexOfChar_0 : cJ9_indexOfChar.data.toList.drop 0 = dktJ9_indexOfChar_0 := by decide +kernel
theorem dksJ9_indexOfChar_1 : cJ9_indexOfChar.data.toList.drop 24 = dktJ9_indexOfChar_1 := dk_seg dksJ9_indexOfChar_0 24 rfl rfl
theorem dJ9_indexOfChar_0 : decode cJ9_indexOfChar 0 = .ok (.iload_n 1, 1) := dk_27 (dk_at dksJ9_indexOfChar_0 0 rfl rfl)
theorem dJ9_indexOfChar_1 : decode cJ9_indexOfChar 1 = .ok (.i2b, 1) := dk_145 (dk_at dksJ9_indexOfChar_0 1 rfl rfl)
theorem dJ9_indexOfChar_2 : decode cJ9_indexOfChar 2 = .ok (.istore 4, 2) := dk_54 4 (dk_at dksJ9_indexOfChar_0 2 rfl rfl)
theorem dJ9_indexOfChar_4 : decode cJ9_indexOfChar 4 = .ok (.iload_n 2, 1) := dk_28 (dk_at dksJ9_indexOfChar_0 4 rfl rfl)
theorem dJ9_indexOfChar_5 : decode cJ9_indexOfChar 5 = .ok (.istore 5, 2) := dk_54 5 (dk_at dksJ9_indexOfChar_0 5 rfl rfl)
theorem dJ9_indexOfChar_7 : decode cJ9_indexOfChar 7 = .ok (.iload 5, 2) := dk_21 5 (dk_at dksJ9_indexOfChar_0 7 rfl rfl)
theorem dJ9_indexOfChar_9 : decode cJ9_indexOfChar 9 = .ok (.iload_n 3, 1) := dk_29 (dk_at dksJ9_indexOfChar_0 9 rfl rfl)
theorem dJ9_indexOfChar_10 : decode cJ9_indexOfChar 10 = .ok (.if_icmp .ge 21, 3) := dk_162 0 21 (dk_at dksJ9_indexOfChar_0 10 rfl rfl)
theorem dJ9_indexOfChar_13 : decode cJ9_indexOfChar 13 = .ok (.aload_n 0, 1) := dk_42 (dk_at dksJ9_indexOfChar_0 13 rfl rfl)
theorem dJ9_indexOfChar_14 : decode cJ9_indexOfChar 14 = .ok (.iload 5, 2) := dk_21 5 (dk_at dksJ9_indexOfChar_0 14 rfl rfl)
theorem dJ9_indexOfChar_16 : decode cJ9_indexOfChar 16 = .ok (.baload, 1) := dk_51 (dk_at dksJ9_indexOfChar_0 16 rfl rfl)
theorem dJ9_indexOfChar_17 : decode cJ9_indexOfChar 17 = .ok (.iload 4, 2) := dk_21 4 (dk_at dksJ9_indexOfChar_0 17 rfl rfl)
theorem dJ9_indexOfChar_19 : decode cJ9_indexOfChar 19 = .ok (.if_icmp .ne 6, 3) := dk_160 0 6 (dk_at dksJ9_indexOfChar_0 19 rfl rfl)
theorem dJ9_indexOfChar_22 : decode cJ9_indexOfChar 22 = .ok (.iload 5, 2) := dk_21 5 (dk_at dksJ9_indexOfChar_0 22 rfl rfl)
theorem dJ9_indexOfChar_24 : decode cJ9_indexOfChar 24 = .ok (.ireturn, 1) := dk_172 (dk_at dksJ9_indexOfChar_1 0 rfl rfl)
theorem dJ9_indexOfChar_25 : decode cJ9_indexOfChar 25 = .ok (.iinc 5 1, 3) := dk_132 5 1 (dk_at dksJ9_indexOfChar_1 1 rfl rfl)
theorem dJ9_indexOfChar_28 : decode cJ9_indexOfChar 28 = .ok (.goto (-21), 3) := dk_167 255 235 (dk_at dksJ9_indexOfChar_1 4 rfl rfl)
theorem dJ9_indexOfChar_31 : decode cJ9_indexOfChar 31 = .ok (.iconst (-1), 1) := dk_2 (dk_at dksJ9_indexOfChar_1 7 rfl rfl)
theorem dJ9_indexOfChar_32 : decode cJ9_indexOfChar 32 = .ok (.ireturn, 1) := dk_172 (dk_at dksJ9_indexOfChar_1 8 rfl rfl)
abbrev cJ9_inflate : ByteArray := prog_28_method_50_code
def yJ9_inflate : MethodName := ⟨RJ9, "inflate", "([BI[BII)V"⟩
def dkwJ9_inflate_0 : List UInt8 := [42, 27, 44, 29, 21, 4, 184, 0, 240, 177]
abbrev dktJ9_inflate_0 : List UInt8 := dkwJ9_inflate_0 ++ []
theorem dksJ9_inflate_0 : cJ9_inflate.data.toList.drop 0 = dktJ9_inflate_0 := by decide +kernel
theorem dJ9_inflate_0 : decode cJ9_inflate 0 = .ok (.aload_n 0, 1) := dk_42 (dk_at dksJ9_inflate_0 0 rfl rfl)
theorem dJ9_inflate_1 : decode cJ9_inflate 1 = .ok (.iload_n 1, 1) := dk_27 (dk_at dksJ9_inflate_0 1 rfl rfl)
theorem dJ9_inflate_2 : decode cJ9_inflate 2 = .ok (.aload_n 2, 1) := dk_44 (dk_at dksJ9_inflate_0 2 rfl rfl)
theorem dJ9_inflate_3 : decode cJ9_inflate 3 = .ok (.iload_n 3, 1) := dk_29 (dk_at dksJ9_inflate_0 3 rfl rfl)
theorem dJ9_inflate_4 : decode cJ9_inflate 4 = .ok (.iload 4, 2) := dk_21 4 (dk_at dksJ9_inflate_0 4 rfl rfl)
theorem dJ9_inflate_6 : decode cJ9_inflate 6 = .ok (.invokestatic 240, 3) := dk_184 0 240 (dk_at dksJ9_inflate_0 6 rfl rfl)
theorem dJ9_inflate_9 : decode cJ9_inflate 9 = .ok (.return_, 1) := dk_177 (dk_at dksJ9_inflate_0 9 rfl rfl)
theorem q131 : (Jvm.Cond.initialized "java/lang/StringLatin1") ∈ lw_all := lw_g (lw_at lw_m1 14 rfl) rfl
theorem q381 : (Jvm.Cond.static ({ cls := "java/lang/StringLatin1", name := "charAt", desc := "([BI)C" } : Jvm.MethodName)) ∈ lw_all := lw_g (lw_at lw_m2 24 rfl) rfl
theorem q382 : (Jvm.Cond.code ({ cls := "java/lang/StringLatin1", name := "charAt", desc := "([BI)C" } : Jvm.MethodName) prog_28_method_2_code (2 : Nat) (Option.some Jvm.ClassFile.FieldType.char)) ∈ lw_all := lw_g (lw_at lw_m2 25 rfl) rfl
theorem q383 : (Jvm.Cond.methodLink "java/lang/StringLatin1" (9 : Nat) ({ cls := "java/lang/String", name := "checkIndex", desc := "(II)V" } : Jvm.MethodName)) ∈ lw_all := lw_g (lw_at lw_m2 26 rfl) rfl
theorem q608 : (Jvm.Cond.static ({ cls := "java/lang/StringLatin1", name := "indexOf", desc := "([BIII)I" } : Jvm.MethodName)) ∈ lw_all := lw_g (lw_at lw_m3 11 rfl) rfl
theorem q609 : (Jvm.Cond.code ({ cls := "java/lang/StringLatin1", name := "indexOf", desc := "([BIII)I" } : Jvm.MethodName) prog_28_method_22_code (4 : Nat) (Option.some Jvm.ClassFile.FieldType.int)) ∈ lw_all := lw_g (lw_at lw_m3 12 rfl) rfl
theorem q610 : (Jvm.Cond.methodLink "java/lang/StringLatin1" (88 : Nat) ({ cls := "java/lang/StringLatin1", name := "canEncode", desc := "(I)Z" } : Jvm.MethodName)) ∈ lw_all := lw_g (lw_at lw_m3 13 rfl) rfl
theorem q611 : (Jvm.Cond.static ({ cls := "java/lang/StringLatin1", name := "canEncode", desc := "(I)Z" } : Jvm.MethodName)) ∈ lw_all := lw_g (lw_at lw_m3 14 rfl) rfl
theorem q612 : (Jvm.Cond.code ({ cls := "java/lang/StringLatin1", name := "canEncode", desc := "(I)Z" } : Jvm.MethodName) prog_28_method_4_code (1 : Nat) (Option.some Jvm.ClassFile.FieldType.boolean)) ∈ lw_all := lw_g (lw_at lw_m3 15 rfl) rfl
theorem q613 : (Jvm.Cond.methodLink "java/lang/StringLatin1" (92 : Nat) ({ cls := "java/lang/Math", name := "max", desc := "(II)I" } : Jvm.MethodName)) ∈ lw_all := lw_g (lw_at lw_m3 16 rfl) rfl
theorem q616 : (Jvm.Cond.methodLink "java/lang/StringLatin1" (38 : Nat) ({ cls := "java/lang/Math", name := "min", desc := "(II)I" } : Jvm.MethodName)) ∈ lw_all := lw_g (lw_at lw_m3 19 rfl) rfl
theorem q619 : (Jvm.Cond.methodLink "java/lang/StringLatin1" (95 : Nat) ({ cls := "java/lang/StringLatin1", name := "indexOfChar", desc := "([BIII)I" } : Jvm.MethodName)) ∈ lw_all := lw_g (lw_at lw_m3 22 rfl) rfl
theorem q620 : (Jvm.Cond.static ({ cls := "java/lang/StringLatin1", name := "indexOfChar", desc := "([BIII)I" } : Jvm.MethodName)) ∈ lw_all := lw_g (lw_at lw_m3 23 rfl) rfl
theorem q621 : (Jvm.Cond.code ({ cls := "java/lang/StringLatin1", name := "indexOfChar", desc := "([BIII)I" } : Jvm.MethodName) prog_28_method_23_code (6 : Nat) (Option.some Jvm.ClassFile.FieldType.int)) ∈ lw_all := lw_g (lw_at lw_m3 24 rfl) rfl
theorem q1297 : (Jvm.Cond.static ({ cls := "java/lang/StringLatin1", name := "inflate", desc := "([BI[BII)V" } : Jvm.MethodName)) ∈ lw_all := lw_g (lw_at lw_m5 220 rfl) rfl
theorem q1298 : (Jvm.Cond.code ({ cls := "java/lang/StringLatin1", name := "inflate", desc := "([BI[BII)V" } : Jvm.MethodName) prog_28_method_50_code (5 : Nat) (Option.none : Option Jvm.ClassFile.FieldType)) ∈ lw_all := lw_g (lw_at lw_m5 221 rfl) rfl
theorem q1299 : (Jvm.Cond.methodLink "java/lang/StringLatin1" (240 : Nat) ({ cls := "java/lang/StringUTF16", name := "inflate", desc := "([BI[BII)V" } : Jvm.MethodName)) ∈ lw_all := lw_g (lw_at lw_m5 222 rfl) rfl
theorem q861 : (Jvm.Cond.interfaceMethod "UnimodularTables$Asker" "UnimodularTables$Asker" "holds" "(I)Z") ∈ lw_tbl := lw_at lw_m4 24 rfl
set_option maxRecDepth 100000
theorem q862 : (Jvm.Cond.declares ({ cls := "UnimodularTables$Asker", name := "holds", desc := "(I)Z" } : Jvm.MethodName)) ∈ lw_tbl := lw_at lw_m4 25 rfl
theorem q814 : (Jvm.Cond.interfaceMethod "UnimodularTables$Back" "UnimodularTables$Back" "goes" "()V") ∈ lw_tbl := lw_at lw_m3 217 rfl
set_option maxRecDepth 100000
theorem q815 : (Jvm.Cond.declares ({ cls := "UnimodularTables$Back", name := "goes", desc := "()V" } : Jvm.MethodName)) ∈ lw_tbl := lw_at lw_m3 218 rfl
theorem q2343 : (Jvm.Cond.castable "UnimodularTables$Back" "java/lang/Object") ∈ lw_tbl := lw_at lw_m10 66 rfl
theorem q438 : (Jvm.Cond.interfaceMethod "UnimodularTables$Turner" "UnimodularTables$Turner" "of" "(LUnimodularTables$Table;II)LUnimodularTables$Table;") ∈ lw_tbl := lw_at lw_m2 81 rfl
set_option maxRecDepth 100000
theorem q439 : (Jvm.Cond.declares ({ cls := "UnimodularTables$Turner", name := "of", desc := "(LUnimodularTables$Table;II)LUnimodularTables$Table;" } : Jvm.MethodName)) ∈ lw_tbl := lw_at lw_m2 82 rfl
theorem q2346 : (Jvm.Cond.castable "UnimodularTables$Turner" "java/lang/Object") ∈ lw_tbl := lw_at lw_m10 69 rfl
theorem q1267 : (Jvm.Cond.sameMethod "[B" "java/lang/Object" "clone" "()Ljava/lang/Object;") ∈ lw_all := lw_g (lw_at lw_m5 190 rfl) rfl
set_option maxRecDepth 100000
theorem q1268 : (Jvm.Cond.selects "[B" ({ cls := "[B", name := "clone", desc := "()Ljava/lang/Object;" } : Jvm.MethodName) ({ cls := "java/lang/Object", name := "clone", desc := "()Ljava/lang/Object;" } : Jvm.MethodName)) ∈ lw_all := lw_g (lw_at lw_m5 191 rfl) rfl
theorem q1269 : (Jvm.Cond.castable "[B" "java/lang/Cloneable") ∈ lw_tbl := lw_at lw_m5 192 rfl
theorem q2367 : (Jvm.Cond.castable "[B" "java/lang/Object") ∈ lw_tbl := lw_at lw_m10 90 rfl
theorem q2368 : (Jvm.Cond.castable "[I" "java/lang/Object") ∈ lw_tbl := lw_at lw_m10 91 rfl
set_option maxRecDepth 100000
theorem q973 : (Jvm.Cond.sameMethod "[J" "java/lang/Object" "clone" "()Ljava/lang/Object;") ∈ lw_all := lw_g (lw_at lw_m4 136 rfl) rfl
set_option maxRecDepth 100000
theorem q976 : (Jvm.Cond.selects "[J" ({ cls := "[J", name := "clone", desc := "()Ljava/lang/Object;" } : Jvm.MethodName) ({ cls := "java/lang/Object", name := "clone", desc := "()Ljava/lang/Object;" } : Jvm.MethodName)) ∈ lw_all := lw_g (lw_at lw_m4 139 rfl) rfl
theorem q977 : (Jvm.Cond.castable "[J" "java/lang/Cloneable") ∈ lw_tbl := lw_at lw_m4 140 rfl
theorem q2371 : (Jvm.Cond.castable "[J" "java/lang/Object") ∈ lw_tbl := lw_at lw_m10 94 rfl
theorem q2366 : (Jvm.Cond.castable "[LUnimodularTables$Back;" "java/lang/Object") ∈ lw_tbl := lw_at lw_m10 89 rfl
set_option maxRecDepth 100000
theorem q2369 : (Jvm.Cond.castable "[LUnimodularTables$Growth;" "java/lang/Object") ∈ lw_tbl := lw_at lw_m10 92 rfl
set_option maxRecDepth 100000
theorem q2374 : (Jvm.Cond.castable "[LUnimodularTables$Turner;" "java/lang/Object") ∈ lw_tbl := lw_at lw_m10 97 rfl
set_option maxRecDepth 100000
theorem q2363 : (Jvm.Cond.sameMethod "[Ljava/lang/Object;" "java/lang/Object" "getClass" "()Ljava/lang/Class;") ∈ lw_all := lw_g (lw_at lw_m10 86 rfl) rfl
set_option maxRecDepth 100000
theorem q2364 : (Jvm.Cond.selects "[Ljava/lang/Object;" ({ cls := "java/lang/Object", name := "getClass", desc := "()Ljava/lang/Class;" } : Jvm.MethodName) ({ cls := "java/lang/Object", name := "getClass", desc := "()Ljava/lang/Class;" } : Jvm.MethodName)) ∈ lw_all := lw_g (lw_at lw_m10 87 rfl) rfl
theorem q2373 : (Jvm.Cond.castable "[Ljava/lang/Object;" "java/lang/Object") ∈ lw_tbl := lw_at lw_m10 96 rfl
theorem q2370 : (Jvm.Cond.castable "[Ljava/util/BitSet;" "java/lang/Object") ∈ lw_tbl := lw_at lw_m10 93 rfl
set_option maxRecDepth 100000
theorem q2372 : (Jvm.Cond.castable "[[I" "java/lang/Object") ∈ lw_tbl := lw_at lw_m10 95 rfl
set_option maxRecDepth 100000
theorem q145 : (Jvm.Cond.initialized "java/lang/Integer$IntegerCache") ∈ lw_all := lw_g (lw_at lw_m1 28 rfl) rfl
set_option maxRecDepth 100000
theorem q1016 : (Jvm.Cond.laysStatic "java/lang/Integer$IntegerCache" "high" "I") ∈ lw_tbl := lw_at lw_m4 179 rfl
theorem q1018 : (Jvm.Cond.laysStatic "java/lang/Integer$IntegerCache" "cache" "[Ljava/lang/Integer;") ∈ lw_tbl := lw_at lw_m4 181 rfl
theorem q139 : (Jvm.Cond.initialized "java/lang/System") ∈ lw_all := lw_g (lw_at lw_m1 22 rfl) rfl
set_option maxRecDepth 100000
theorem q708 : (Jvm.Cond.static ({ cls := "java/lang/System", name := "arraycopy", desc := "(Ljava/lang/Object;ILjava/lang/Object;II)V" } : Jvm.MethodName)) ∈ lw_all := lw_g (lw_at lw_m3 111 rfl) rfl
theorem q709 : (Jvm.Cond.native ({ cls := "java/lang/System", name := "arraycopy", desc := "(Ljava/lang/Object;ILjava/lang/Object;II)V" } : Jvm.MethodName)) ∈ lw_all := lw_g (lw_at lw_m3 112 rfl) rfl
theorem q1102 : (Jvm.Cond.interfaceMethod "java/util/Iterator" "java/util/Iterator" "hasNext" "()Z") ∈ lw_tbl := lw_at lw_m5 25 rfl
set_option maxRecDepth 100000
theorem q1103 : (Jvm.Cond.declares ({ cls := "java/util/Iterator", name := "hasNext", desc := "()Z" } : Jvm.MethodName)) ∈ lw_tbl := lw_at lw_m5 26 rfl
theorem q1121 : (Jvm.Cond.interfaceMethod "java/util/Iterator" "java/util/Iterator" "next" "()Ljava/lang/Object;") ∈ lw_tbl := lw_at lw_m5 44 rfl
theorem q1122 : (Jvm.Cond.declares ({ cls := "java/util/Iterator", name := "next", desc := "()Ljava/lang/Object;" } : Jvm.MethodName)) ∈ lw_tbl := lw_at lw_m5 45 rfl
theorem q1402 : (Jvm.Cond.interfaceMethod "java/util/Iterator" "java/util/Iterator" "remove" "()V") ∈ lw_tbl := lw_at lw_m6 85 rfl
theorem q1403 : (Jvm.Cond.declares ({ cls := "java/util/Iterator", name := "remove", desc := "()V" } : Jvm.MethodName)) ∈ lw_tbl := lw_at lw_m6 86 rfl
theorem q1459 : (Jvm.Cond.interfaceMethod "java/util/List" "java/util/List" "size" "()I") ∈ lw_tbl := lw_at lw_m6 142 rfl
set_option maxRecDepth 100000
theorem q1460 : (Jvm.Cond.declares ({ cls := "java/util/List", name := "size", desc := "()I" } : Jvm.MethodName)) ∈ lw_tbl := lw_at lw_m6 143 rfl
theorem q1471 : (Jvm.Cond.interfaceMethod "java/util/List" "java/util/List" "get" "(I)Ljava/lang/Object;") ∈ lw_tbl := lw_at lw_m6 154 rfl
theorem q1472 : (Jvm.Cond.declares ({ cls := "java/util/List", name := "get", desc := "(I)Ljava/lang/Object;" } : Jvm.MethodName)) ∈ lw_tbl := lw_at lw_m6 155 rfl
theorem q1478 : (Jvm.Cond.interfaceMethod "java/util/List" "java/util/List" "set" "(ILjava/lang/Object;)Ljava/lang/Object;") ∈ lw_tbl := lw_at lw_m6 161 rfl
theorem q1479 : (Jvm.Cond.declares ({ cls := "java/util/List", name := "set", desc := "(ILjava/lang/Object;)Ljava/lang/Object;" } : Jvm.MethodName)) ∈ lw_tbl := lw_at lw_m6 162 rfl
theorem q1487 : (Jvm.Cond.interfaceMethod "java/util/List" "java/util/List" "listIterator" "()Ljava/util/ListIterator;") ∈ lw_tbl := lw_at lw_m6 170 rfl
theorem q1488 : (Jvm.Cond.declares ({ cls := "java/util/List", name := "listIterator", desc := "()Ljava/util/ListIterator;" } : Jvm.MethodName)) ∈ lw_tbl := lw_at lw_m6 171 rfl
theorem q1494 : (Jvm.Cond.interfaceMethod "java/util/List" "java/util/List" "listIterator" "(I)Ljava/util/ListIterator;") ∈ lw_tbl := lw_at lw_m6 177 rfl
theorem q1495 : (Jvm.Cond.declares ({ cls := "java/util/List", name := "listIterator", desc := "(I)Ljava/util/ListIterator;" } : Jvm.MethodName)) ∈ lw_tbl := lw_at lw_m6 178 rfl
theorem q1501 : (Jvm.Cond.interfaceMethod "java/util/ListIterator" "java/util/ListIterator" "next" "()Ljava/lang/Object;") ∈ lw_tbl := lw_at lw_m6 184 rfl
set_option maxRecDepth 100000
theorem q1502 : (Jvm.Cond.declares ({ cls := "java/util/ListIterator", name := "next", desc := "()Ljava/lang/Object;" } : Jvm.MethodName)) ∈ lw_tbl := lw_at lw_m6 185 rfl
theorem q1509 : (Jvm.Cond.interfaceMethod "java/util/ListIterator" "java/util/ListIterator" "previous" "()Ljava/lang/Object;") ∈ lw_tbl := lw_at lw_m6 192 rfl
theorem q1510 : (Jvm.Cond.declares ({ cls := "java/util/ListIterator", name := "previous", desc := "()Ljava/lang/Object;" } : Jvm.MethodName)) ∈ lw_tbl := lw_at lw_m6 193 rfl
theorem q1534 : (Jvm.Cond.interfaceMethod "java/util/ListIterator" "java/util/ListIterator" "set" "(Ljava/lang/Object;)V") ∈ lw_tbl := lw_at lw_m6 217 rfl
theorem q1535 : (Jvm.Cond.declares ({ cls := "java/util/ListIterator", name := "set", desc := "(Ljava/lang/Object;)V" } : Jvm.MethodName)) ∈ lw_tbl := lw_at lw_m6 218 rfl
theorem q224 : (Jvm.Cond.arrayOver (Jvm.ClassFile.FieldType.object "UnimodularTables$Back")) ∈ lw_tbl := lw_at lw_m1 107 rfl
set_option maxRecDepth 100000
theorem q260 : (Jvm.Cond.arrayClass Jvm.ClassFile.FieldType.byte) ∈ lw_all := lw_g (lw_at lw_m1 143 rfl) rfl
theorem q261 : (Jvm.Cond.arrayClass Jvm.ClassFile.FieldType.int) ∈ lw_all := lw_g (lw_at lw_m1 144 rfl) rfl
theorem q263 : (Jvm.Cond.arrayOver (Jvm.ClassFile.FieldType.object "UnimodularTables$Growth")) ∈ lw_tbl := lw_at lw_m1 146 rfl
theorem q270 : (Jvm.Cond.arrayOver (Jvm.ClassFile.FieldType.object "java/util/BitSet")) ∈ lw_tbl := lw_at lw_m1 153 rfl
theorem q293 : (Jvm.Cond.arrayClass Jvm.ClassFile.FieldType.long) ∈ lw_all := lw_g (lw_at lw_m1 176 rfl) rfl
theorem q324 : (Jvm.Cond.arrayOver (Jvm.ClassFile.FieldType.array Jvm.ClassFile.FieldType.int)) ∈ lw_tbl := lw_at lw_m1 207 rfl
theorem q332 : (Jvm.Cond.arrayOver (Jvm.ClassFile.FieldType.object "java/lang/Object")) ∈ lw_tbl := lw_at lw_m1 215 rfl
theorem q427 : (Jvm.Cond.arrayOver (Jvm.ClassFile.FieldType.object "UnimodularTables$Turner")) ∈ lw_tbl := lw_at lw_m2 70 rfl
