/-! DECODE ROWS BY BYTES: one lemma an opcode; a method's code is cut into short pieces once, and a row reads its own piece alone. -/
set_option maxRecDepth 100000
/-- the code has just these bytes from pc on -/
def DkAt (code : ByteArray) (pc : Nat) (bs : List UInt8) : Prop := ∀ (j : Nat) (b : UInt8), bs[j]? = some b → code.data.toList[pc + j]? = some b
/-- the piece W has the bytes bs from its place j on -/
def dkIn (W : List UInt8) (j : Nat) (bs : List UInt8) : Bool := decide ((W.drop j).take bs.length = bs)
theorem dk_seg {l W T : List UInt8} {o o2 : Nat} (h : l.drop o = W ++ T) (n : Nat) (hn : W.length = n) (ho : o + n = o2) : l.drop o2 = T := by
  subst ho
  rw [← List.drop_drop, h, List.drop_left' hn]
theorem dk_at {code : ByteArray} {W T bs : List UInt8} {o pc : Nat} (h : code.data.toList.drop o = W ++ T) (j : Nat) (hp : o + j = pc) (hw : dkIn W j bs = true) : DkAt code pc bs := by
  subst hp
  intro i b e
  have h1 := of_decide_eq_true hw
  have h2 : i < bs.length := (List.getElem?_eq_some_iff.mp e).1
  have h3 : W[j + i]? = some b := by
    rw [← h1, List.getElem?_take, if_pos h2, List.getElem?_drop] at e
    exact e
  have h4 : j + i < W.length := (List.getElem?_eq_some_iff.mp h3).1
  have h5 : (code.data.toList.drop o)[j + i]? = some b := by
    rw [h, List.getElem?_append_left h4]
    exact h3
  rw [List.getElem?_drop, ← Nat.add_assoc] at h5
  exact h5
theorem dk_u1 {A : ByteArray} {p : Nat} {b : UInt8} (h : A.data.toList[p]? = some b) : (Reader.u1 : Reader DecodeError Nat) A p = .ok (b.toNat, p + 1) := by
  obtain ⟨h1, h2⟩ := List.getElem?_eq_some_iff.mp h
  have h3 : p < A.size := by simpa using h1
  have h4 : A[p]'h3 = b := h2
  have e : (Reader.u1 : Reader DecodeError Nat) A p = (if h : p < A.size then .ok (A[p].toNat, p + 1) else .error (HasTruncated.truncated p)) := by
    show (do if h : p < A.size then do set (p + 1); Pure.pure A[p].toNat else MonadExcept.throw (HasTruncated.truncated p) : Reader DecodeError Nat) A p = _
    by_cases hi : p < A.size
    · rw [dif_pos hi, dif_pos hi]; rfl
    · rw [dif_neg hi, dif_neg hi]; rfl
  rw [e, dif_pos h3, h4]
theorem dk_bind {α β : Type} {r : Reader DecodeError α} {f : α → Reader DecodeError β} {A : ByteArray} {p s : Nat} {a : α} (h : r A p = .ok (a, s)) : (r >>= f) A p = f a A s := by
  show (do let (a, s) ← r A p; f a A s : Except DecodeError (β × Nat)) = _
  rw [h]
  rfl
theorem dk_map {α β : Type} {r : Reader DecodeError α} {g : α → β} {A : ByteArray} {p s : Nat} {a : α} (h : r A p = .ok (a, s)) : (g <$> r) A p = .ok (g a, s) := by
  show (do let (a, s) ← r A p; .ok (g a, s) : Except DecodeError (β × Nat)) = _
  rw [h]
  rfl
theorem dk_u2 {A : ByteArray} {p : Nat} {a b : UInt8} (h : A.data.toList[p]? = some a) (h2 : A.data.toList[p + 1]? = some b) : (Reader.u2 : Reader DecodeError Nat) A p = .ok (a.toNat * 256 + b.toNat, p + 2) := by
  show (Reader.u1 >>= fun hi => Reader.u1 >>= fun lo => Pure.pure (hi * 256 + lo) : Reader DecodeError Nat) A p = _
  rw [dk_bind (dk_u1 h), dk_bind (dk_u1 h2)]
  rfl
theorem dk_of {code : ByteArray} {pc n : Nat} {i : Instr} (h : Decoder.instr pc code pc = .ok (i, pc + n)) : decode code pc = .ok (i, n) := by
  have e : decode code pc = (match Decoder.instr pc code pc with | .error x => .error x | .ok (j, s) => .ok (j, s - pc)) := by
    show (do let (j, s) ← Decoder.instr pc code pc; Pure.pure (j, s - pc) : Except DecodeError (Instr × Nat)) = _
    cases Decoder.instr pc code pc <;> rfl
  rw [e, h]
  show Except.ok (i, pc + n - pc) = _
  rw [Nat.add_sub_cancel_left]
theorem dk_1 {code : ByteArray} {pc : Nat} (h : DkAt code pc [1]) : decode code pc = .ok (.aconst_null, 1) := dk_of ((dk_bind (dk_u1 (h 0 _ rfl))).trans rfl)
theorem dk_2 {code : ByteArray} {pc : Nat} (h : DkAt code pc [2]) : decode code pc = .ok (.iconst (-1), 1) := dk_of ((dk_bind (dk_u1 (h 0 _ rfl))).trans rfl)
theorem dk_3 {code : ByteArray} {pc : Nat} (h : DkAt code pc [3]) : decode code pc = .ok (.iconst 0, 1) := dk_of ((dk_bind (dk_u1 (h 0 _ rfl))).trans rfl)
theorem dk_4 {code : ByteArray} {pc : Nat} (h : DkAt code pc [4]) : decode code pc = .ok (.iconst 1, 1) := dk_of ((dk_bind (dk_u1 (h 0 _ rfl))).trans rfl)
theorem dk_5 {code : ByteArray} {pc : Nat} (h : DkAt code pc [5]) : decode code pc = .ok (.iconst 2, 1) := dk_of ((dk_bind (dk_u1 (h 0 _ rfl))).trans rfl)
theorem dk_6 {code : ByteArray} {pc : Nat} (h : DkAt code pc [6]) : decode code pc = .ok (.iconst 3, 1) := dk_of ((dk_bind (dk_u1 (h 0 _ rfl))).trans rfl)
theorem dk_7 {code : ByteArray} {pc : Nat} (h : DkAt code pc [7]) : decode code pc = .ok (.iconst 4, 1) := dk_of ((dk_bind (dk_u1 (h 0 _ rfl))).trans rfl)
theorem dk_8 {code : ByteArray} {pc : Nat} (h : DkAt code pc [8]) : decode code pc = .ok (.iconst 5, 1) := dk_of ((dk_bind (dk_u1 (h 0 _ rfl))).trans rfl)
theorem dk_9 {code : ByteArray} {pc : Nat} (h : DkAt code pc [9]) : decode code pc = .ok (.lconst 0, 1) := dk_of ((dk_bind (dk_u1 (h 0 _ rfl))).trans rfl)
theorem dk_10 {code : ByteArray} {pc : Nat} (h : DkAt code pc [10]) : decode code pc = .ok (.lconst 1, 1) := dk_of ((dk_bind (dk_u1 (h 0 _ rfl))).trans rfl)
theorem dk_16 {code : ByteArray} {pc : Nat} (a : UInt8) (h : DkAt code pc [16, a]) : decode code pc = .ok (.bipush (Reader.signed 8 a.toNat), 2) := dk_of ((dk_bind (dk_u1 (h 0 _ rfl))).trans ((dk_bind (dk_map (dk_u1 (h 1 _ rfl)))).trans rfl))
theorem dk_17 {code : ByteArray} {pc : Nat} (a b : UInt8) (h : DkAt code pc [17, a, b]) : decode code pc = .ok (.sipush (Reader.signed 16 (a.toNat * 256 + b.toNat)), 3) := dk_of ((dk_bind (dk_u1 (h 0 _ rfl))).trans ((dk_bind (dk_map (dk_u2 (h 1 _ rfl) (h 2 _ rfl)))).trans rfl))
theorem dk_18 {code : ByteArray} {pc : Nat} (a : UInt8) (h : DkAt code pc [18, a]) : decode code pc = .ok (.ldc a.toNat, 2) := dk_of ((dk_bind (dk_u1 (h 0 _ rfl))).trans ((dk_bind (dk_u1 (h 1 _ rfl))).trans rfl))
theorem dk_19 {code : ByteArray} {pc : Nat} (a b : UInt8) (h : DkAt code pc [19, a, b]) : decode code pc = .ok (.ldc_w (a.toNat * 256 + b.toNat), 3) := dk_of ((dk_bind (dk_u1 (h 0 _ rfl))).trans ((dk_bind (dk_u2 (h 1 _ rfl) (h 2 _ rfl))).trans rfl))
theorem dk_21 {code : ByteArray} {pc : Nat} (a : UInt8) (h : DkAt code pc [21, a]) : decode code pc = .ok (.iload a.toNat, 2) := dk_of ((dk_bind (dk_u1 (h 0 _ rfl))).trans ((dk_bind (dk_u1 (h 1 _ rfl))).trans rfl))
theorem dk_25 {code : ByteArray} {pc : Nat} (a : UInt8) (h : DkAt code pc [25, a]) : decode code pc = .ok (.aload a.toNat, 2) := dk_of ((dk_bind (dk_u1 (h 0 _ rfl))).trans ((dk_bind (dk_u1 (h 1 _ rfl))).trans rfl))
theorem dk_26 {code : ByteArray} {pc : Nat} (h : DkAt code pc [26]) : decode code pc = .ok (.iload_n 0, 1) := dk_of ((dk_bind (dk_u1 (h 0 _ rfl))).trans rfl)
theorem dk_27 {code : ByteArray} {pc : Nat} (h : DkAt code pc [27]) : decode code pc = .ok (.iload_n 1, 1) := dk_of ((dk_bind (dk_u1 (h 0 _ rfl))).trans rfl)
theorem dk_28 {code : ByteArray} {pc : Nat} (h : DkAt code pc [28]) : decode code pc = .ok (.iload_n 2, 1) := dk_of ((dk_bind (dk_u1 (h 0 _ rfl))).trans rfl)
theorem dk_29 {code : ByteArray} {pc : Nat} (h : DkAt code pc [29]) : decode code pc = .ok (.iload_n 3, 1) := dk_of ((dk_bind (dk_u1 (h 0 _ rfl))).trans rfl)
theorem dk_42 {code : ByteArray} {pc : Nat} (h : DkAt code pc [42]) : decode code pc = .ok (.aload_n 0, 1) := dk_of ((dk_bind (dk_u1 (h 0 _ rfl))).trans rfl)
theorem dk_43 {code : ByteArray} {pc : Nat} (h : DkAt code pc [43]) : decode code pc = .ok (.aload_n 1, 1) := dk_of ((dk_bind (dk_u1 (h 0 _ rfl))).trans rfl)
theorem dk_44 {code : ByteArray} {pc : Nat} (h : DkAt code pc [44]) : decode code pc = .ok (.aload_n 2, 1) := dk_of ((dk_bind (dk_u1 (h 0 _ rfl))).trans rfl)
theorem dk_45 {code : ByteArray} {pc : Nat} (h : DkAt code pc [45]) : decode code pc = .ok (.aload_n 3, 1) := dk_of ((dk_bind (dk_u1 (h 0 _ rfl))).trans rfl)
theorem dk_46 {code : ByteArray} {pc : Nat} (h : DkAt code pc [46]) : decode code pc = .ok (.iaload, 1) := dk_of ((dk_bind (dk_u1 (h 0 _ rfl))).trans rfl)
theorem dk_47 {code : ByteArray} {pc : Nat} (h : DkAt code pc [47]) : decode code pc = .ok (.laload, 1) := dk_of ((dk_bind (dk_u1 (h 0 _ rfl))).trans rfl)
theorem dk_50 {code : ByteArray} {pc : Nat} (h : DkAt code pc [50]) : decode code pc = .ok (.aaload, 1) := dk_of ((dk_bind (dk_u1 (h 0 _ rfl))).trans rfl)
theorem dk_51 {code : ByteArray} {pc : Nat} (h : DkAt code pc [51]) : decode code pc = .ok (.baload, 1) := dk_of ((dk_bind (dk_u1 (h 0 _ rfl))).trans rfl)
theorem dk_54 {code : ByteArray} {pc : Nat} (a : UInt8) (h : DkAt code pc [54, a]) : decode code pc = .ok (.istore a.toNat, 2) := dk_of ((dk_bind (dk_u1 (h 0 _ rfl))).trans ((dk_bind (dk_u1 (h 1 _ rfl))).trans rfl))
theorem dk_58 {code : ByteArray} {pc : Nat} (a : UInt8) (h : DkAt code pc [58, a]) : decode code pc = .ok (.astore a.toNat, 2) := dk_of ((dk_bind (dk_u1 (h 0 _ rfl))).trans ((dk_bind (dk_u1 (h 1 _ rfl))).trans rfl))
theorem dk_59 {code : ByteArray} {pc : Nat} (h : DkAt code pc [59]) : decode code pc = .ok (.istore_n 0, 1) := dk_of ((dk_bind (dk_u1 (h 0 _ rfl))).trans rfl)
theorem dk_60 {code : ByteArray} {pc : Nat} (h : DkAt code pc [60]) : decode code pc = .ok (.istore_n 1, 1) := dk_of ((dk_bind (dk_u1 (h 0 _ rfl))).trans rfl)
theorem dk_61 {code : ByteArray} {pc : Nat} (h : DkAt code pc [61]) : decode code pc = .ok (.istore_n 2, 1) := dk_of ((dk_bind (dk_u1 (h 0 _ rfl))).trans rfl)
theorem dk_62 {code : ByteArray} {pc : Nat} (h : DkAt code pc [62]) : decode code pc = .ok (.istore_n 3, 1) := dk_of ((dk_bind (dk_u1 (h 0 _ rfl))).trans rfl)
theorem dk_76 {code : ByteArray} {pc : Nat} (h : DkAt code pc [76]) : decode code pc = .ok (.astore_n 1, 1) := dk_of ((dk_bind (dk_u1 (h 0 _ rfl))).trans rfl)
theorem dk_77 {code : ByteArray} {pc : Nat} (h : DkAt code pc [77]) : decode code pc = .ok (.astore_n 2, 1) := dk_of ((dk_bind (dk_u1 (h 0 _ rfl))).trans rfl)
theorem dk_78 {code : ByteArray} {pc : Nat} (h : DkAt code pc [78]) : decode code pc = .ok (.astore_n 3, 1) := dk_of ((dk_bind (dk_u1 (h 0 _ rfl))).trans rfl)
theorem dk_79 {code : ByteArray} {pc : Nat} (h : DkAt code pc [79]) : decode code pc = .ok (.iastore, 1) := dk_of ((dk_bind (dk_u1 (h 0 _ rfl))).trans rfl)
theorem dk_80 {code : ByteArray} {pc : Nat} (h : DkAt code pc [80]) : decode code pc = .ok (.lastore, 1) := dk_of ((dk_bind (dk_u1 (h 0 _ rfl))).trans rfl)
theorem dk_83 {code : ByteArray} {pc : Nat} (h : DkAt code pc [83]) : decode code pc = .ok (.aastore, 1) := dk_of ((dk_bind (dk_u1 (h 0 _ rfl))).trans rfl)
theorem dk_84 {code : ByteArray} {pc : Nat} (h : DkAt code pc [84]) : decode code pc = .ok (.bastore, 1) := dk_of ((dk_bind (dk_u1 (h 0 _ rfl))).trans rfl)
theorem dk_87 {code : ByteArray} {pc : Nat} (h : DkAt code pc [87]) : decode code pc = .ok (.pop, 1) := dk_of ((dk_bind (dk_u1 (h 0 _ rfl))).trans rfl)
theorem dk_89 {code : ByteArray} {pc : Nat} (h : DkAt code pc [89]) : decode code pc = .ok (.dup, 1) := dk_of ((dk_bind (dk_u1 (h 0 _ rfl))).trans rfl)
theorem dk_90 {code : ByteArray} {pc : Nat} (h : DkAt code pc [90]) : decode code pc = .ok (.dup_x1, 1) := dk_of ((dk_bind (dk_u1 (h 0 _ rfl))).trans rfl)
theorem dk_92 {code : ByteArray} {pc : Nat} (h : DkAt code pc [92]) : decode code pc = .ok (.dup2, 1) := dk_of ((dk_bind (dk_u1 (h 0 _ rfl))).trans rfl)
theorem dk_96 {code : ByteArray} {pc : Nat} (h : DkAt code pc [96]) : decode code pc = .ok (.iadd, 1) := dk_of ((dk_bind (dk_u1 (h 0 _ rfl))).trans rfl)
theorem dk_100 {code : ByteArray} {pc : Nat} (h : DkAt code pc [100]) : decode code pc = .ok (.isub, 1) := dk_of ((dk_bind (dk_u1 (h 0 _ rfl))).trans rfl)
theorem dk_104 {code : ByteArray} {pc : Nat} (h : DkAt code pc [104]) : decode code pc = .ok (.imul, 1) := dk_of ((dk_bind (dk_u1 (h 0 _ rfl))).trans rfl)
theorem dk_108 {code : ByteArray} {pc : Nat} (h : DkAt code pc [108]) : decode code pc = .ok (.idiv, 1) := dk_of ((dk_bind (dk_u1 (h 0 _ rfl))).trans rfl)
theorem dk_112 {code : ByteArray} {pc : Nat} (h : DkAt code pc [112]) : decode code pc = .ok (.irem, 1) := dk_of ((dk_bind (dk_u1 (h 0 _ rfl))).trans rfl)
theorem dk_116 {code : ByteArray} {pc : Nat} (h : DkAt code pc [116]) : decode code pc = .ok (.ineg, 1) := dk_of ((dk_bind (dk_u1 (h 0 _ rfl))).trans rfl)
theorem dk_120 {code : ByteArray} {pc : Nat} (h : DkAt code pc [120]) : decode code pc = .ok (.ishl, 1) := dk_of ((dk_bind (dk_u1 (h 0 _ rfl))).trans rfl)
theorem dk_122 {code : ByteArray} {pc : Nat} (h : DkAt code pc [122]) : decode code pc = .ok (.ishr, 1) := dk_of ((dk_bind (dk_u1 (h 0 _ rfl))).trans rfl)
theorem dk_124 {code : ByteArray} {pc : Nat} (h : DkAt code pc [124]) : decode code pc = .ok (.iushr, 1) := dk_of ((dk_bind (dk_u1 (h 0 _ rfl))).trans rfl)
theorem dk_126 {code : ByteArray} {pc : Nat} (h : DkAt code pc [126]) : decode code pc = .ok (.iand, 1) := dk_of ((dk_bind (dk_u1 (h 0 _ rfl))).trans rfl)
theorem dk_128 {code : ByteArray} {pc : Nat} (h : DkAt code pc [128]) : decode code pc = .ok (.ior, 1) := dk_of ((dk_bind (dk_u1 (h 0 _ rfl))).trans rfl)
theorem dk_130 {code : ByteArray} {pc : Nat} (h : DkAt code pc [130]) : decode code pc = .ok (.ixor, 1) := dk_of ((dk_bind (dk_u1 (h 0 _ rfl))).trans rfl)
theorem dk_132 {code : ByteArray} {pc : Nat} (a b : UInt8) (h : DkAt code pc [132, a, b]) : decode code pc = .ok (.iinc a.toNat (Reader.signed 8 b.toNat), 3) := dk_of ((dk_bind (dk_u1 (h 0 _ rfl))).trans ((dk_bind (dk_u1 (h 1 _ rfl))).trans ((dk_bind (dk_map (dk_u1 (h 2 _ rfl)))).trans rfl)))
theorem dk_133 {code : ByteArray} {pc : Nat} (h : DkAt code pc [133]) : decode code pc = .ok (.i2l, 1) := dk_of ((dk_bind (dk_u1 (h 0 _ rfl))).trans rfl)
theorem dk_145 {code : ByteArray} {pc : Nat} (h : DkAt code pc [145]) : decode code pc = .ok (.i2b, 1) := dk_of ((dk_bind (dk_u1 (h 0 _ rfl))).trans rfl)
theorem dk_146 {code : ByteArray} {pc : Nat} (h : DkAt code pc [146]) : decode code pc = .ok (.i2c, 1) := dk_of ((dk_bind (dk_u1 (h 0 _ rfl))).trans rfl)
theorem dk_148 {code : ByteArray} {pc : Nat} (h : DkAt code pc [148]) : decode code pc = .ok (.lcmp, 1) := dk_of ((dk_bind (dk_u1 (h 0 _ rfl))).trans rfl)
theorem dk_153 {code : ByteArray} {pc : Nat} (a b : UInt8) (h : DkAt code pc [153, a, b]) : decode code pc = .ok (.ifCond .eq (Reader.signed 16 (a.toNat * 256 + b.toNat)), 3) := dk_of ((dk_bind (dk_u1 (h 0 _ rfl))).trans ((dk_bind (dk_map (dk_u2 (h 1 _ rfl) (h 2 _ rfl)))).trans rfl))
theorem dk_154 {code : ByteArray} {pc : Nat} (a b : UInt8) (h : DkAt code pc [154, a, b]) : decode code pc = .ok (.ifCond .ne (Reader.signed 16 (a.toNat * 256 + b.toNat)), 3) := dk_of ((dk_bind (dk_u1 (h 0 _ rfl))).trans ((dk_bind (dk_map (dk_u2 (h 1 _ rfl) (h 2 _ rfl)))).trans rfl))
theorem dk_155 {code : ByteArray} {pc : Nat} (a b : UInt8) (h : DkAt code pc [155, a, b]) : decode code pc = .ok (.ifCond .lt (Reader.signed 16 (a.toNat * 256 + b.toNat)), 3) := dk_of ((dk_bind (dk_u1 (h 0 _ rfl))).trans ((dk_bind (dk_map (dk_u2 (h 1 _ rfl) (h 2 _ rfl)))).trans rfl))
theorem dk_156 {code : ByteArray} {pc : Nat} (a b : UInt8) (h : DkAt code pc [156, a, b]) : decode code pc = .ok (.ifCond .ge (Reader.signed 16 (a.toNat * 256 + b.toNat)), 3) := dk_of ((dk_bind (dk_u1 (h 0 _ rfl))).trans ((dk_bind (dk_map (dk_u2 (h 1 _ rfl) (h 2 _ rfl)))).trans rfl))
theorem dk_157 {code : ByteArray} {pc : Nat} (a b : UInt8) (h : DkAt code pc [157, a, b]) : decode code pc = .ok (.ifCond .gt (Reader.signed 16 (a.toNat * 256 + b.toNat)), 3) := dk_of ((dk_bind (dk_u1 (h 0 _ rfl))).trans ((dk_bind (dk_map (dk_u2 (h 1 _ rfl) (h 2 _ rfl)))).trans rfl))
theorem dk_158 {code : ByteArray} {pc : Nat} (a b : UInt8) (h : DkAt code pc [158, a, b]) : decode code pc = .ok (.ifCond .le (Reader.signed 16 (a.toNat * 256 + b.toNat)), 3) := dk_of ((dk_bind (dk_u1 (h 0 _ rfl))).trans ((dk_bind (dk_map (dk_u2 (h 1 _ rfl) (h 2 _ rfl)))).trans rfl))
theorem dk_159 {code : ByteArray} {pc : Nat} (a b : UInt8) (h : DkAt code pc [159, a, b]) : decode code pc = .ok (.if_icmp .eq (Reader.signed 16 (a.toNat * 256 + b.toNat)), 3) := dk_of ((dk_bind (dk_u1 (h 0 _ rfl))).trans ((dk_bind (dk_map (dk_u2 (h 1 _ rfl) (h 2 _ rfl)))).trans rfl))
theorem dk_160 {code : ByteArray} {pc : Nat} (a b : UInt8) (h : DkAt code pc [160, a, b]) : decode code pc = .ok (.if_icmp .ne (Reader.signed 16 (a.toNat * 256 + b.toNat)), 3) := dk_of ((dk_bind (dk_u1 (h 0 _ rfl))).trans ((dk_bind (dk_map (dk_u2 (h 1 _ rfl) (h 2 _ rfl)))).trans rfl))
theorem dk_161 {code : ByteArray} {pc : Nat} (a b : UInt8) (h : DkAt code pc [161, a, b]) : decode code pc = .ok (.if_icmp .lt (Reader.signed 16 (a.toNat * 256 + b.toNat)), 3) := dk_of ((dk_bind (dk_u1 (h 0 _ rfl))).trans ((dk_bind (dk_map (dk_u2 (h 1 _ rfl) (h 2 _ rfl)))).trans rfl))
theorem dk_162 {code : ByteArray} {pc : Nat} (a b : UInt8) (h : DkAt code pc [162, a, b]) : decode code pc = .ok (.if_icmp .ge (Reader.signed 16 (a.toNat * 256 + b.toNat)), 3) := dk_of ((dk_bind (dk_u1 (h 0 _ rfl))).trans ((dk_bind (dk_map (dk_u2 (h 1 _ rfl) (h 2 _ rfl)))).trans rfl))
theorem dk_163 {code : ByteArray} {pc : Nat} (a b : UInt8) (h : DkAt code pc [163, a, b]) : decode code pc = .ok (.if_icmp .gt (Reader.signed 16 (a.toNat * 256 + b.toNat)), 3) := dk_of ((dk_bind (dk_u1 (h 0 _ rfl))).trans ((dk_bind (dk_map (dk_u2 (h 1 _ rfl) (h 2 _ rfl)))).trans rfl))
theorem dk_164 {code : ByteArray} {pc : Nat} (a b : UInt8) (h : DkAt code pc [164, a, b]) : decode code pc = .ok (.if_icmp .le (Reader.signed 16 (a.toNat * 256 + b.toNat)), 3) := dk_of ((dk_bind (dk_u1 (h 0 _ rfl))).trans ((dk_bind (dk_map (dk_u2 (h 1 _ rfl) (h 2 _ rfl)))).trans rfl))
theorem dk_165 {code : ByteArray} {pc : Nat} (a b : UInt8) (h : DkAt code pc [165, a, b]) : decode code pc = .ok (.if_acmp .eq (Reader.signed 16 (a.toNat * 256 + b.toNat)), 3) := dk_of ((dk_bind (dk_u1 (h 0 _ rfl))).trans ((dk_bind (dk_map (dk_u2 (h 1 _ rfl) (h 2 _ rfl)))).trans rfl))
theorem dk_166 {code : ByteArray} {pc : Nat} (a b : UInt8) (h : DkAt code pc [166, a, b]) : decode code pc = .ok (.if_acmp .ne (Reader.signed 16 (a.toNat * 256 + b.toNat)), 3) := dk_of ((dk_bind (dk_u1 (h 0 _ rfl))).trans ((dk_bind (dk_map (dk_u2 (h 1 _ rfl) (h 2 _ rfl)))).trans rfl))
theorem dk_167 {code : ByteArray} {pc : Nat} (a b : UInt8) (h : DkAt code pc [167, a, b]) : decode code pc = .ok (.goto (Reader.signed 16 (a.toNat * 256 + b.toNat)), 3) := dk_of ((dk_bind (dk_u1 (h 0 _ rfl))).trans ((dk_bind (dk_map (dk_u2 (h 1 _ rfl) (h 2 _ rfl)))).trans rfl))
theorem dk_172 {code : ByteArray} {pc : Nat} (h : DkAt code pc [172]) : decode code pc = .ok (.ireturn, 1) := dk_of ((dk_bind (dk_u1 (h 0 _ rfl))).trans rfl)
theorem dk_176 {code : ByteArray} {pc : Nat} (h : DkAt code pc [176]) : decode code pc = .ok (.areturn, 1) := dk_of ((dk_bind (dk_u1 (h 0 _ rfl))).trans rfl)
theorem dk_177 {code : ByteArray} {pc : Nat} (h : DkAt code pc [177]) : decode code pc = .ok (.return_, 1) := dk_of ((dk_bind (dk_u1 (h 0 _ rfl))).trans rfl)
theorem dk_178 {code : ByteArray} {pc : Nat} (a b : UInt8) (h : DkAt code pc [178, a, b]) : decode code pc = .ok (.getstatic (a.toNat * 256 + b.toNat), 3) := dk_of ((dk_bind (dk_u1 (h 0 _ rfl))).trans ((dk_bind (dk_u2 (h 1 _ rfl) (h 2 _ rfl))).trans rfl))
theorem dk_180 {code : ByteArray} {pc : Nat} (a b : UInt8) (h : DkAt code pc [180, a, b]) : decode code pc = .ok (.getfield (a.toNat * 256 + b.toNat), 3) := dk_of ((dk_bind (dk_u1 (h 0 _ rfl))).trans ((dk_bind (dk_u2 (h 1 _ rfl) (h 2 _ rfl))).trans rfl))
theorem dk_181 {code : ByteArray} {pc : Nat} (a b : UInt8) (h : DkAt code pc [181, a, b]) : decode code pc = .ok (.putfield (a.toNat * 256 + b.toNat), 3) := dk_of ((dk_bind (dk_u1 (h 0 _ rfl))).trans ((dk_bind (dk_u2 (h 1 _ rfl) (h 2 _ rfl))).trans rfl))
theorem dk_182 {code : ByteArray} {pc : Nat} (a b : UInt8) (h : DkAt code pc [182, a, b]) : decode code pc = .ok (.invokevirtual (a.toNat * 256 + b.toNat), 3) := dk_of ((dk_bind (dk_u1 (h 0 _ rfl))).trans ((dk_bind (dk_u2 (h 1 _ rfl) (h 2 _ rfl))).trans rfl))
theorem dk_183 {code : ByteArray} {pc : Nat} (a b : UInt8) (h : DkAt code pc [183, a, b]) : decode code pc = .ok (.invokespecial (a.toNat * 256 + b.toNat), 3) := dk_of ((dk_bind (dk_u1 (h 0 _ rfl))).trans ((dk_bind (dk_u2 (h 1 _ rfl) (h 2 _ rfl))).trans rfl))
theorem dk_184 {code : ByteArray} {pc : Nat} (a b : UInt8) (h : DkAt code pc [184, a, b]) : decode code pc = .ok (.invokestatic (a.toNat * 256 + b.toNat), 3) := dk_of ((dk_bind (dk_u1 (h 0 _ rfl))).trans ((dk_bind (dk_u2 (h 1 _ rfl) (h 2 _ rfl))).trans rfl))
theorem dk_187 {code : ByteArray} {pc : Nat} (a b : UInt8) (h : DkAt code pc [187, a, b]) : decode code pc = .ok (.new (a.toNat * 256 + b.toNat), 3) := dk_of ((dk_bind (dk_u1 (h 0 _ rfl))).trans ((dk_bind (dk_u2 (h 1 _ rfl) (h 2 _ rfl))).trans rfl))
theorem dk_188_4 {code : ByteArray} {pc : Nat} (h : DkAt code pc [188, 4]) : decode code pc = .ok (.newarray .boolean, 2) := dk_of ((dk_bind (dk_u1 (h 0 _ rfl))).trans ((dk_bind (dk_u1 (h 1 _ rfl))).trans rfl))
theorem dk_188_8 {code : ByteArray} {pc : Nat} (h : DkAt code pc [188, 8]) : decode code pc = .ok (.newarray .byte, 2) := dk_of ((dk_bind (dk_u1 (h 0 _ rfl))).trans ((dk_bind (dk_u1 (h 1 _ rfl))).trans rfl))
theorem dk_188_10 {code : ByteArray} {pc : Nat} (h : DkAt code pc [188, 10]) : decode code pc = .ok (.newarray .int, 2) := dk_of ((dk_bind (dk_u1 (h 0 _ rfl))).trans ((dk_bind (dk_u1 (h 1 _ rfl))).trans rfl))
theorem dk_188_11 {code : ByteArray} {pc : Nat} (h : DkAt code pc [188, 11]) : decode code pc = .ok (.newarray .long, 2) := dk_of ((dk_bind (dk_u1 (h 0 _ rfl))).trans ((dk_bind (dk_u1 (h 1 _ rfl))).trans rfl))
theorem dk_189 {code : ByteArray} {pc : Nat} (a b : UInt8) (h : DkAt code pc [189, a, b]) : decode code pc = .ok (.anewarray (a.toNat * 256 + b.toNat), 3) := dk_of ((dk_bind (dk_u1 (h 0 _ rfl))).trans ((dk_bind (dk_u2 (h 1 _ rfl) (h 2 _ rfl))).trans rfl))
theorem dk_190 {code : ByteArray} {pc : Nat} (h : DkAt code pc [190]) : decode code pc = .ok (.arraylength, 1) := dk_of ((dk_bind (dk_u1 (h 0 _ rfl))).trans rfl)
theorem dk_191 {code : ByteArray} {pc : Nat} (h : DkAt code pc [191]) : decode code pc = .ok (.athrow, 1) := dk_of ((dk_bind (dk_u1 (h 0 _ rfl))).trans rfl)
theorem dk_192 {code : ByteArray} {pc : Nat} (a b : UInt8) (h : DkAt code pc [192, a, b]) : decode code pc = .ok (.checkcast (a.toNat * 256 + b.toNat), 3) := dk_of ((dk_bind (dk_u1 (h 0 _ rfl))).trans ((dk_bind (dk_u2 (h 1 _ rfl) (h 2 _ rfl))).trans rfl))
theorem dk_198 {code : ByteArray} {pc : Nat} (a b : UInt8) (h : DkAt code pc [198, a, b]) : decode code pc = .ok (.ifnull (Reader.signed 16 (a.toNat * 256 + b.toNat)), 3) := dk_of ((dk_bind (dk_u1 (h 0 _ rfl))).trans ((dk_bind (dk_map (dk_u2 (h 1 _ rfl) (h 2 _ rfl)))).trans rfl))
theorem dk_199 {code : ByteArray} {pc : Nat} (a b : UInt8) (h : DkAt code pc [199, a, b]) : decode code pc = .ok (.ifnonnull (Reader.signed 16 (a.toNat * 256 + b.toNat)), 3) := dk_of ((dk_bind (dk_u1 (h 0 _ rfl))).trans ((dk_bind (dk_map (dk_u2 (h 1 _ rfl) (h 2 _ rfl)))).trans rfl))
/-! QueryHarbor$Line -/
set_option maxRecDepth 100000
def RX2 : String := "QueryHarbor$Line"
def TX2 : u_T := fun k => match k with
  | 0 => ("QueryHarbor$Line", "store", "LQueryHarbor$Store;", true)
  | 1 => ("QueryHarbor$Line", "delay", "I", false)
  | 2 => ("QueryHarbor$Line", "lag", "I", false)
  | 3 => ("QueryHarbor$Line", "quota", "I", false)
  | 4 => ("QueryHarbor$Line", "cap", "I", false)
  | 5 => ("QueryHarbor$Line", "lease", "I", false)
  | 6 => ("QueryHarbor$Line", "fails", "I", false)
  | 7 => ("QueryHarbor$Line", "doesIt", "Z", false)
  | 8 => ("QueryHarbor$Line", "window", "I", false)
  | _ => ("QueryHarbor$Line", "used", "I", false)
def tyX2 : Nat → FieldType := fun k => match k with
  | 0 => .object "QueryHarbor$Store"
  | 1 => .int
  | 2 => .int
  | 3 => .int
  | 4 => .int
  | 5 => .int
  | 6 => .int
  | 7 => .boolean
  | 8 => .int
  | _ => .int
abbrev wsX20 : List Cond := u_ws RX2 TX2 10
theorem nmX2 : ∀ a, a < 10 → ∀ b, b < 10 → a ≠ b → (TX2 a).2.1 ≠ (TX2 b).2.1 := by decide +kernel
theorem tyX2_ok : ∀ k, k < 10 → parseFieldDescriptor (TX2 k).2.2.1 = some (tyX2 k) := by decide +kernel
abbrev cX2_init : ByteArray := prog_9_method_1_code
def yX2_init : MethodName := ⟨RX2, "<init>", "(LQueryHarbor$Store;)V"⟩
def dkwX2_init_1 : List UInt8 := [181, 0, 21, 42, 43, 181, 0, 24, 177]
abbrev dktX2_init_1 : List UInt8 := dkwX2_init_1 ++ []
def dkwX2_init_0 : List UInt8 := [42, 183, 0, 3, 42, 4, 181, 0, 9, 42, 16, 20, 181, 0, 15, 42, 16, 12, 181, 0, 18, 42, 16, 60]
abbrev dktX2_init_0 : List UInt8 := dkwX2_init_0 ++ dktX2_init_1
theorem dksX2_init_0 : cX2_init.data.toList.drop 0 = dktX2_init_0 := by decide +kernel
theorem dksX2_init_1 : cX2_init.data.toList.drop 24 = dktX2_init_1 := dk_seg dksX2_init_0 24 rfl rfl
theorem dX2_init_0 : decode cX2_init 0 = .ok (.aload_n 0, 1) := dk_42 (dk_at dksX2_init_0 0 rfl rfl)
theorem dX2_init_1 : decode cX2_init 1 = .ok (.invokespecial 3, 3) := dk_183 0 3 (dk_at dksX2_init_0 1 rfl rfl)
theorem dX2_init_4 : decode cX2_init 4 = .ok (.aload_n 0, 1) := dk_42 (dk_at dksX2_init_0 4 rfl rfl)
theorem dX2_init_5 : decode cX2_init 5 = .ok (.iconst 1, 1) := dk_4 (dk_at dksX2_init_0 5 rfl rfl)
theorem dX2_init_6 : decode cX2_init 6 = .ok (.putfield 9, 3) := dk_181 0 9 (dk_at dksX2_init_0 6 rfl rfl)
theorem dX2_init_9 : decode cX2_init 9 = .ok (.aload_n 0, 1) := dk_42 (dk_at dksX2_init_0 9 rfl rfl)
theorem dX2_init_10 : decode cX2_init 10 = .ok (.bipush 20, 2) := dk_16 20 (dk_at dksX2_init_0 10 rfl rfl)
theorem dX2_init_12 : decode cX2_init 12 = .ok (.putfield 15, 3) := dk_181 0 15 (dk_at dksX2_init_0 12 rfl rfl)
theorem dX2_init_15 : decode cX2_init 15 = .ok (.aload_n 0, 1) := dk_42 (dk_at dksX2_init_0 15 rfl rfl)
theorem dX2_init_16 : decode cX2_init 16 = .ok (.bipush 12, 2) := dk_16 12 (dk_at dksX2_init_0 16 rfl rfl)
theorem dX2_init_18 : decode cX2_init 18 = .ok (.putfield 18, 3) := dk_181 0 18 (dk_at dksX2_init_0 18 rfl rfl)
theorem dX2_init_21 : decode cX2_init 21 = .ok (.aload_n 0, 1) := dk_42 (dk_at dksX2_init_0 21 rfl rfl)
theorem dX2_init_22 : decode cX2_init 22 = .ok (.bipush 60, 2) := dk_16 60 (dk_at dksX2_init_0 22 rfl rfl)
theorem dX2_init_24 : decode cX2_init 24 = .ok (.putfield 21, 3) := dk_181 0 21 (dk_at dksX2_init_1 0 rfl rfl)
theorem dX2_init_27 : decode cX2_init 27 = .ok (.aload_n 0, 1) := dk_42 (dk_at dksX2_init_1 3 rfl rfl)
theorem dX2_init_28 : decode cX2_init 28 = .ok (.aload_n 1, 1) := dk_43 (dk_at dksX2_init_1 4 rfl rfl)
theorem dX2_init_29 : decode cX2_init 29 = .ok (.putfield 24, 3) := dk_181 0 24 (dk_at dksX2_init_1 5 rfl rfl)
theorem dX2_init_32 : decode cX2_init 32 = .ok (.return_, 1) := dk_177 (dk_at dksX2_init_1 8 rfl rfl)
theorem q86 : (Jvm.Cond.initialized "QueryHarbor$Line") ∈ lw_all := lw_g (lw_at lw_m1 2 rfl) rfl
theorem q137 : (Jvm.Cond.instantiable "QueryHarbor$Line" (10 : Nat)) ∈ lw_all := lw_g (lw_at lw_m1 53 rfl) rfl
theorem q146 : (Jvm.Cond.instanceMethod ({ cls := "QueryHarbor$Line", name := "<init>", desc := "(LQueryHarbor$Store;)V" } : Jvm.MethodName)) ∈ lw_all := lw_g (lw_at lw_m1 62 rfl) rfl
theorem q147 : (Jvm.Cond.code ({ cls := "QueryHarbor$Line", name := "<init>", desc := "(LQueryHarbor$Store;)V" } : Jvm.MethodName) prog_9_method_1_code (2 : Nat) (Option.none : Option Jvm.ClassFile.FieldType)) ∈ lw_all := lw_g (lw_at lw_m1 63 rfl) rfl
theorem q148 : (Jvm.Cond.methodLink "QueryHarbor$Line" (3 : Nat) ({ cls := "java/lang/Object", name := "<init>", desc := "()V" } : Jvm.MethodName)) ∈ lw_all := lw_g (lw_at lw_m1 64 rfl) rfl
theorem q149 : (Jvm.Cond.fieldLink "QueryHarbor$Line" (24 : Nat) "QueryHarbor$Line" "store" "LQueryHarbor$Store;") ∈ lw_all := lw_g (lw_at lw_m1 65 rfl) rfl
theorem q152 : (Jvm.Cond.fieldLink "QueryHarbor$Line" (9 : Nat) "QueryHarbor$Line" "delay" "I") ∈ lw_all := lw_g (lw_at lw_m1 68 rfl) rfl
theorem q155 : (Jvm.Cond.fieldLink "QueryHarbor$Line" (15 : Nat) "QueryHarbor$Line" "quota" "I") ∈ lw_all := lw_g (lw_at lw_m1 71 rfl) rfl
theorem q157 : (Jvm.Cond.fieldLink "QueryHarbor$Line" (18 : Nat) "QueryHarbor$Line" "cap" "I") ∈ lw_all := lw_g (lw_at lw_m1 73 rfl) rfl
theorem q159 : (Jvm.Cond.fieldLink "QueryHarbor$Line" (21 : Nat) "QueryHarbor$Line" "lease" "I") ∈ lw_all := lw_g (lw_at lw_m1 75 rfl) rfl
theorem q165 : (Jvm.Cond.laysFinal "QueryHarbor$Line" "QueryHarbor$Line" "store" "LQueryHarbor$Store;") ∈ lw_all := lw_g (lw_at lw_m1 81 rfl) rfl
theorem q166 : (Jvm.Cond.soleField "QueryHarbor$Line" "store") ∈ lw_all := lw_g (lw_at lw_m1 82 rfl) rfl
theorem q167 : (Jvm.Cond.lays "QueryHarbor$Line" "QueryHarbor$Line" "delay" "I") ∈ lw_all := lw_g (lw_at lw_m1 83 rfl) rfl
theorem q168 : (Jvm.Cond.soleField "QueryHarbor$Line" "delay") ∈ lw_all := lw_g (lw_at lw_m1 84 rfl) rfl
theorem q169 : (Jvm.Cond.lays "QueryHarbor$Line" "QueryHarbor$Line" "lag" "I") ∈ lw_all := lw_g (lw_at lw_m1 85 rfl) rfl
theorem q170 : (Jvm.Cond.soleField "QueryHarbor$Line" "lag") ∈ lw_all := lw_g (lw_at lw_m1 86 rfl) rfl
theorem q171 : (Jvm.Cond.lays "QueryHarbor$Line" "QueryHarbor$Line" "quota" "I") ∈ lw_all := lw_g (lw_at lw_m1 87 rfl) rfl
theorem q172 : (Jvm.Cond.soleField "QueryHarbor$Line" "quota") ∈ lw_all := lw_g (lw_at lw_m1 88 rfl) rfl
theorem q173 : (Jvm.Cond.lays "QueryHarbor$Line" "QueryHarbor$Line" "cap" "I") ∈ lw_all := lw_g (lw_at lw_m1 89 rfl) rfl
theorem q174 : (Jvm.Cond.soleField "QueryHarbor$Line" "cap") ∈ lw_all := lw_g (lw_at lw_m1 90 rfl) rfl
theorem q175 : (Jvm.Cond.lays "QueryHarbor$Line" "QueryHarbor$Line" "lease" "I") ∈ lw_all := lw_g (lw_at lw_m1 91 rfl) rfl
theorem q176 : (Jvm.Cond.soleField "QueryHarbor$Line" "lease") ∈ lw_all := lw_g (lw_at lw_m1 92 rfl) rfl
theorem q177 : (Jvm.Cond.lays "QueryHarbor$Line" "QueryHarbor$Line" "fails" "I") ∈ lw_all := lw_g (lw_at lw_m1 93 rfl) rfl
theorem q178 : (Jvm.Cond.soleField "QueryHarbor$Line" "fails") ∈ lw_all := lw_g (lw_at lw_m1 94 rfl) rfl
theorem q179 : (Jvm.Cond.lays "QueryHarbor$Line" "QueryHarbor$Line" "doesIt" "Z") ∈ lw_all := lw_g (lw_at lw_m1 95 rfl) rfl
theorem q180 : (Jvm.Cond.soleField "QueryHarbor$Line" "doesIt") ∈ lw_all := lw_g (lw_at lw_m1 96 rfl) rfl
theorem q181 : (Jvm.Cond.lays "QueryHarbor$Line" "QueryHarbor$Line" "window" "I") ∈ lw_all := lw_g (lw_at lw_m1 97 rfl) rfl
theorem q182 : (Jvm.Cond.soleField "QueryHarbor$Line" "window") ∈ lw_all := lw_g (lw_at lw_m1 98 rfl) rfl
theorem q183 : (Jvm.Cond.lays "QueryHarbor$Line" "QueryHarbor$Line" "used" "I") ∈ lw_all := lw_g (lw_at lw_m1 99 rfl) rfl
theorem q184 : (Jvm.Cond.soleField "QueryHarbor$Line" "used") ∈ lw_all := lw_g (lw_at lw_m1 100 rfl) rfl
theorem q185 : (Jvm.Cond.superclass "QueryHarbor$Line" "java/lang/Object") ∈ lw_all := lw_g (lw_at lw_m1 101 rfl) rfl
theorem q930 : (Jvm.Cond.selects "QueryHarbor$Line" ({ cls := "java/lang/Object", name := "getClass", desc := "()Ljava/lang/Class;" } : Jvm.MethodName) ({ cls := "java/lang/Object", name := "getClass", desc := "()Ljava/lang/Class;" } : Jvm.MethodName)) ∈ lw_all := lw_g (lw_at lw_m4 126 rfl) rfl
theorem q2334 : (Jvm.Cond.castable "QueryHarbor$Line" "java/lang/Object") ∈ lw_tbl := lw_at lw_m10 90 rfl
theorem in_X2 : ∀ w ∈ wsX20, w ∈ lw_all := lw_in wsX20 [165, 167, 169, 171, 173, 175, 177, 179, 181, 183] (by decide +kernel) (by decide +kernel)
/-! QueryHarbor$Tables -/
set_option maxRecDepth 100000
def RX3 : String := "QueryHarbor$Tables"
abbrev cX3_init : ByteArray := prog_18_method_1_code
def yX3_init : MethodName := ⟨RX3, "<init>", "()V"⟩
theorem dX3_init_0 : decode cX3_init 0 = .ok (.aload_n 0, 1) := by decide +kernel
theorem dX3_init_1 : decode cX3_init 1 = .ok (.invokespecial 3, 3) := by decide +kernel
theorem dX3_init_4 : decode cX3_init 4 = .ok (.return_, 1) := by decide +kernel
abbrev cX3_hasKey : ByteArray := prog_18_method_4_code
def yX3_hasKey : MethodName := ⟨RX3, "hasKey", "()Z"⟩
theorem dX3_hasKey_0 : decode cX3_hasKey 0 = .ok (.iconst 0, 1) := by decide +kernel
theorem dX3_hasKey_1 : decode cX3_hasKey 1 = .ok (.ireturn, 1) := by decide +kernel
abbrev cX3_can : ByteArray := prog_18_method_3_code
def yX3_can : MethodName := ⟨RX3, "can", "(II)Z"⟩
def dkwX3_can_0 : List UInt8 := [27, 7, 159, 0, 7, 4, 167, 0, 4, 3, 172]
abbrev dktX3_can_0 : List UInt8 := dkwX3_can_0 ++ []
theorem dksX3_can_0 : cX3_can.data.toList.drop 0 = dktX3_can_0 := by decide +kernel
theorem dX3_can_0 : decode cX3_can 0 = .ok (.iload_n 1, 1) := dk_27 (dk_at dksX3_can_0 0 rfl rfl)
theorem dX3_can_1 : decode cX3_can 1 = .ok (.iconst 4, 1) := dk_7 (dk_at dksX3_can_0 1 rfl rfl)
theorem dX3_can_2 : decode cX3_can 2 = .ok (.if_icmp .eq 7, 3) := dk_159 0 7 (dk_at dksX3_can_0 2 rfl rfl)
theorem dX3_can_5 : decode cX3_can 5 = .ok (.iconst 1, 1) := dk_4 (dk_at dksX3_can_0 5 rfl rfl)
theorem dX3_can_6 : decode cX3_can 6 = .ok (.goto 4, 3) := dk_167 0 4 (dk_at dksX3_can_0 6 rfl rfl)
theorem dX3_can_9 : decode cX3_can 9 = .ok (.iconst 0, 1) := dk_3 (dk_at dksX3_can_0 9 rfl rfl)
theorem dX3_can_10 : decode cX3_can 10 = .ok (.ireturn, 1) := dk_172 (dk_at dksX3_can_0 10 rfl rfl)
abbrev cX3_fee : ByteArray := prog_18_method_2_code
def yX3_fee : MethodName := ⟨RX3, "fee", "()I"⟩
theorem dX3_fee_0 : decode cX3_fee 0 = .ok (.iconst 5, 1) := by decide +kernel
theorem dX3_fee_1 : decode cX3_fee 1 = .ok (.ireturn, 1) := by decide +kernel
theorem q87 : (Jvm.Cond.initialized "QueryHarbor$Tables") ∈ lw_all := lw_g (lw_at lw_m1 3 rfl) rfl
theorem q139 : (Jvm.Cond.instantiable "QueryHarbor$Tables" (0 : Nat)) ∈ lw_all := lw_g (lw_at lw_m1 55 rfl) rfl
theorem q141 : (Jvm.Cond.instanceMethod ({ cls := "QueryHarbor$Tables", name := "<init>", desc := "()V" } : Jvm.MethodName)) ∈ lw_all := lw_g (lw_at lw_m1 57 rfl) rfl
theorem q142 : (Jvm.Cond.code ({ cls := "QueryHarbor$Tables", name := "<init>", desc := "()V" } : Jvm.MethodName) prog_18_method_1_code (1 : Nat) (Option.none : Option Jvm.ClassFile.FieldType)) ∈ lw_all := lw_g (lw_at lw_m1 58 rfl) rfl
theorem q143 : (Jvm.Cond.methodLink "QueryHarbor$Tables" (3 : Nat) ({ cls := "java/lang/Object", name := "<init>", desc := "()V" } : Jvm.MethodName)) ∈ lw_all := lw_g (lw_at lw_m1 59 rfl) rfl
theorem q144 : (Jvm.Cond.superclass "QueryHarbor$Tables" "java/lang/Object") ∈ lw_all := lw_g (lw_at lw_m1 60 rfl) rfl
theorem q537 : (Jvm.Cond.castable "QueryHarbor$Tables" "QueryHarbor$Store") ∈ lw_tbl := lw_at lw_m2 213 rfl
theorem q538 : (Jvm.Cond.unhidden "QueryHarbor$Tables" "isFit" "(II)Z") ∈ lw_tbl := lw_at lw_m2 214 rfl
theorem q569 : (Jvm.Cond.selects "QueryHarbor$Tables" ({ cls := "QueryHarbor$Store", name := "hasKey", desc := "()Z" } : Jvm.MethodName) ({ cls := "QueryHarbor$Tables", name := "hasKey", desc := "()Z" } : Jvm.MethodName)) ∈ lw_all := lw_g (lw_at lw_m3 5 rfl) rfl
theorem q570 : (Jvm.Cond.unhidden "QueryHarbor$Tables" "hasKey" "()Z") ∈ lw_tbl := lw_at lw_m3 6 rfl
theorem q571 : (Jvm.Cond.instanceMethod ({ cls := "QueryHarbor$Tables", name := "hasKey", desc := "()Z" } : Jvm.MethodName)) ∈ lw_all := lw_g (lw_at lw_m3 7 rfl) rfl
theorem q572 : (Jvm.Cond.publicMethod ({ cls := "QueryHarbor$Tables", name := "hasKey", desc := "()Z" } : Jvm.MethodName)) ∈ lw_tbl := lw_at lw_m3 8 rfl
theorem q573 : (Jvm.Cond.code ({ cls := "QueryHarbor$Tables", name := "hasKey", desc := "()Z" } : Jvm.MethodName) prog_18_method_4_code (1 : Nat) (Option.some Jvm.ClassFile.FieldType.boolean)) ∈ lw_all := lw_g (lw_at lw_m3 9 rfl) rfl
theorem q632 : (Jvm.Cond.unhidden "QueryHarbor$Tables" "kept" "(II)I") ∈ lw_tbl := lw_at lw_m3 68 rfl
theorem q938 : (Jvm.Cond.selects "QueryHarbor$Tables" ({ cls := "java/lang/Object", name := "getClass", desc := "()Ljava/lang/Class;" } : Jvm.MethodName) ({ cls := "java/lang/Object", name := "getClass", desc := "()Ljava/lang/Class;" } : Jvm.MethodName)) ∈ lw_all := lw_g (lw_at lw_m4 134 rfl) rfl
theorem q1050 : (Jvm.Cond.unhidden "QueryHarbor$Tables" "columns" "()I") ∈ lw_tbl := lw_at lw_m5 6 rfl
theorem q1283 : (Jvm.Cond.selects "QueryHarbor$Tables" ({ cls := "QueryHarbor$Store", name := "can", desc := "(II)Z" } : Jvm.MethodName) ({ cls := "QueryHarbor$Tables", name := "can", desc := "(II)Z" } : Jvm.MethodName)) ∈ lw_all := lw_g (lw_at lw_m5 239 rfl) rfl
theorem q1284 : (Jvm.Cond.unhidden "QueryHarbor$Tables" "can" "(II)Z") ∈ lw_tbl := lw_at lw_m6 0 rfl
theorem q1285 : (Jvm.Cond.instanceMethod ({ cls := "QueryHarbor$Tables", name := "can", desc := "(II)Z" } : Jvm.MethodName)) ∈ lw_all := lw_g (lw_at lw_m6 1 rfl) rfl
theorem q1286 : (Jvm.Cond.publicMethod ({ cls := "QueryHarbor$Tables", name := "can", desc := "(II)Z" } : Jvm.MethodName)) ∈ lw_tbl := lw_at lw_m6 2 rfl
theorem q1287 : (Jvm.Cond.code ({ cls := "QueryHarbor$Tables", name := "can", desc := "(II)Z" } : Jvm.MethodName) prog_18_method_3_code (3 : Nat) (Option.some Jvm.ClassFile.FieldType.boolean)) ∈ lw_all := lw_g (lw_at lw_m6 3 rfl) rfl
theorem q1391 : (Jvm.Cond.selects "QueryHarbor$Tables" ({ cls := "QueryHarbor$Store", name := "fee", desc := "()I" } : Jvm.MethodName) ({ cls := "QueryHarbor$Tables", name := "fee", desc := "()I" } : Jvm.MethodName)) ∈ lw_all := lw_g (lw_at lw_m6 107 rfl) rfl
theorem q1392 : (Jvm.Cond.unhidden "QueryHarbor$Tables" "fee" "()I") ∈ lw_tbl := lw_at lw_m6 108 rfl
theorem q1393 : (Jvm.Cond.instanceMethod ({ cls := "QueryHarbor$Tables", name := "fee", desc := "()I" } : Jvm.MethodName)) ∈ lw_all := lw_g (lw_at lw_m6 109 rfl) rfl
theorem q1394 : (Jvm.Cond.publicMethod ({ cls := "QueryHarbor$Tables", name := "fee", desc := "()I" } : Jvm.MethodName)) ∈ lw_tbl := lw_at lw_m6 110 rfl
theorem q1395 : (Jvm.Cond.code ({ cls := "QueryHarbor$Tables", name := "fee", desc := "()I" } : Jvm.MethodName) prog_18_method_2_code (1 : Nat) (Option.some Jvm.ClassFile.FieldType.int)) ∈ lw_all := lw_g (lw_at lw_m6 111 rfl) rfl
theorem q1409 : (Jvm.Cond.unhidden "QueryHarbor$Tables" "freight" "()I") ∈ lw_tbl := lw_at lw_m6 125 rfl
theorem q2339 : (Jvm.Cond.castable "QueryHarbor$Tables" "java/lang/Object") ∈ lw_tbl := lw_at lw_m10 95 rfl
/-! QueryHarbor$KeyStore -/
set_option maxRecDepth 100000
def RX4 : String := "QueryHarbor$KeyStore"
abbrev cX4_init : ByteArray := prog_8_method_1_code
def yX4_init : MethodName := ⟨RX4, "<init>", "()V"⟩
theorem dX4_init_0 : decode cX4_init 0 = .ok (.aload_n 0, 1) := by decide +kernel
theorem dX4_init_1 : decode cX4_init 1 = .ok (.invokespecial 3, 3) := by decide +kernel
theorem dX4_init_4 : decode cX4_init 4 = .ok (.return_, 1) := by decide +kernel
abbrev cX4_isFit : ByteArray := prog_8_method_5_code
def yX4_isFit : MethodName := ⟨RX4, "isFit", "(II)Z"⟩
def dkwX4_isFit_1 : List UInt8 := [167, 0, 12, 28, 154, 0, 7, 4, 167, 0, 4, 3, 172]
abbrev dktX4_isFit_1 : List UInt8 := dkwX4_isFit_1 ++ []
def dkwX4_isFit_0 : List UInt8 := [27, 154, 0, 10, 28, 184, 0, 9, 167, 0, 26, 27, 4, 160, 0, 12, 42, 27, 28, 183, 0, 13]
abbrev dktX4_isFit_0 : List UInt8 := dkwX4_isFit_0 ++ dktX4_isFit_1
theorem dksX4_isFit_0 : cX4_isFit.data.toList.drop 0 = dktX4_isFit_0 := by decide +kernel
theorem dksX4_isFit_1 : cX4_isFit.data.toList.drop 22 = dktX4_isFit_1 := dk_seg dksX4_isFit_0 22 rfl rfl
theorem dX4_isFit_0 : decode cX4_isFit 0 = .ok (.iload_n 1, 1) := dk_27 (dk_at dksX4_isFit_0 0 rfl rfl)
theorem dX4_isFit_1 : decode cX4_isFit 1 = .ok (.ifCond .ne 10, 3) := dk_154 0 10 (dk_at dksX4_isFit_0 1 rfl rfl)
theorem dX4_isFit_4 : decode cX4_isFit 4 = .ok (.iload_n 2, 1) := dk_28 (dk_at dksX4_isFit_0 4 rfl rfl)
theorem dX4_isFit_5 : decode cX4_isFit 5 = .ok (.invokestatic 9, 3) := dk_184 0 9 (dk_at dksX4_isFit_0 5 rfl rfl)
theorem dX4_isFit_8 : decode cX4_isFit 8 = .ok (.goto 26, 3) := dk_167 0 26 (dk_at dksX4_isFit_0 8 rfl rfl)
theorem dX4_isFit_11 : decode cX4_isFit 11 = .ok (.iload_n 1, 1) := dk_27 (dk_at dksX4_isFit_0 11 rfl rfl)
theorem dX4_isFit_12 : decode cX4_isFit 12 = .ok (.iconst 1, 1) := dk_4 (dk_at dksX4_isFit_0 12 rfl rfl)
theorem dX4_isFit_13 : decode cX4_isFit 13 = .ok (.if_icmp .ne 12, 3) := dk_160 0 12 (dk_at dksX4_isFit_0 13 rfl rfl)
theorem dX4_isFit_16 : decode cX4_isFit 16 = .ok (.aload_n 0, 1) := dk_42 (dk_at dksX4_isFit_0 16 rfl rfl)
theorem dX4_isFit_17 : decode cX4_isFit 17 = .ok (.iload_n 1, 1) := dk_27 (dk_at dksX4_isFit_0 17 rfl rfl)
theorem dX4_isFit_18 : decode cX4_isFit 18 = .ok (.iload_n 2, 1) := dk_28 (dk_at dksX4_isFit_0 18 rfl rfl)
theorem dX4_isFit_19 : decode cX4_isFit 19 = .ok (.invokespecial 13, 3) := dk_183 0 13 (dk_at dksX4_isFit_0 19 rfl rfl)
theorem dX4_isFit_22 : decode cX4_isFit 22 = .ok (.goto 12, 3) := dk_167 0 12 (dk_at dksX4_isFit_1 0 rfl rfl)
theorem dX4_isFit_25 : decode cX4_isFit 25 = .ok (.iload_n 2, 1) := dk_28 (dk_at dksX4_isFit_1 3 rfl rfl)
theorem dX4_isFit_26 : decode cX4_isFit 26 = .ok (.ifCond .ne 7, 3) := dk_154 0 7 (dk_at dksX4_isFit_1 4 rfl rfl)
theorem dX4_isFit_29 : decode cX4_isFit 29 = .ok (.iconst 1, 1) := dk_4 (dk_at dksX4_isFit_1 7 rfl rfl)
theorem dX4_isFit_30 : decode cX4_isFit 30 = .ok (.goto 4, 3) := dk_167 0 4 (dk_at dksX4_isFit_1 8 rfl rfl)
theorem dX4_isFit_33 : decode cX4_isFit 33 = .ok (.iconst 0, 1) := dk_3 (dk_at dksX4_isFit_1 11 rfl rfl)
theorem dX4_isFit_34 : decode cX4_isFit 34 = .ok (.ireturn, 1) := dk_172 (dk_at dksX4_isFit_1 12 rfl rfl)
abbrev cX4_kept : ByteArray := prog_8_method_6_code
def yX4_kept : MethodName := ⟨RX4, "kept", "(II)I"⟩
def dkwX4_kept_1 : List UInt8 := [184, 0, 25, 172]
abbrev dktX4_kept_1 : List UInt8 := dkwX4_kept_1 ++ []
def dkwX4_kept_0 : List UInt8 := [27, 153, 0, 10, 28, 17, 19, 136, 160, 0, 7, 28, 167, 0, 13, 3, 16, 99, 28, 184, 0, 19]
abbrev dktX4_kept_0 : List UInt8 := dkwX4_kept_0 ++ dktX4_kept_1
theorem dksX4_kept_0 : cX4_kept.data.toList.drop 0 = dktX4_kept_0 := by decide +kernel
theorem dksX4_kept_1 : cX4_kept.data.toList.drop 22 = dktX4_kept_1 := dk_seg dksX4_kept_0 22 rfl rfl
theorem dX4_kept_0 : decode cX4_kept 0 = .ok (.iload_n 1, 1) := dk_27 (dk_at dksX4_kept_0 0 rfl rfl)
theorem dX4_kept_1 : decode cX4_kept 1 = .ok (.ifCond .eq 10, 3) := dk_153 0 10 (dk_at dksX4_kept_0 1 rfl rfl)
theorem dX4_kept_4 : decode cX4_kept 4 = .ok (.iload_n 2, 1) := dk_28 (dk_at dksX4_kept_0 4 rfl rfl)
theorem dX4_kept_5 : decode cX4_kept 5 = .ok (.sipush 5000, 3) := dk_17 19 136 (dk_at dksX4_kept_0 5 rfl rfl)
theorem dX4_kept_8 : decode cX4_kept 8 = .ok (.if_icmp .ne 7, 3) := dk_160 0 7 (dk_at dksX4_kept_0 8 rfl rfl)
theorem dX4_kept_11 : decode cX4_kept 11 = .ok (.iload_n 2, 1) := dk_28 (dk_at dksX4_kept_0 11 rfl rfl)
theorem dX4_kept_12 : decode cX4_kept 12 = .ok (.goto 13, 3) := dk_167 0 13 (dk_at dksX4_kept_0 12 rfl rfl)
theorem dX4_kept_15 : decode cX4_kept 15 = .ok (.iconst 0, 1) := dk_3 (dk_at dksX4_kept_0 15 rfl rfl)
theorem dX4_kept_16 : decode cX4_kept 16 = .ok (.bipush 99, 2) := dk_16 99 (dk_at dksX4_kept_0 16 rfl rfl)
theorem dX4_kept_18 : decode cX4_kept 18 = .ok (.iload_n 2, 1) := dk_28 (dk_at dksX4_kept_0 18 rfl rfl)
theorem dX4_kept_19 : decode cX4_kept 19 = .ok (.invokestatic 19, 3) := dk_184 0 19 (dk_at dksX4_kept_0 19 rfl rfl)
theorem dX4_kept_22 : decode cX4_kept 22 = .ok (.invokestatic 25, 3) := dk_184 0 25 (dk_at dksX4_kept_1 0 rfl rfl)
theorem dX4_kept_25 : decode cX4_kept 25 = .ok (.ireturn, 1) := dk_172 (dk_at dksX4_kept_1 3 rfl rfl)
abbrev cX4_columns : ByteArray := prog_8_method_3_code
def yX4_columns : MethodName := ⟨RX4, "columns", "()I"⟩
theorem dX4_columns_0 : decode cX4_columns 0 = .ok (.iconst 2, 1) := by decide +kernel
theorem dX4_columns_1 : decode cX4_columns 1 = .ok (.ireturn, 1) := by decide +kernel
abbrev cX4_can : ByteArray := prog_8_method_4_code
def yX4_can : MethodName := ⟨RX4, "can", "(II)Z"⟩
def dkwX4_can_0 : List UInt8 := [28, 154, 0, 12, 27, 5, 163, 0, 7, 4, 167, 0, 4, 3, 172]
abbrev dktX4_can_0 : List UInt8 := dkwX4_can_0 ++ []
theorem dksX4_can_0 : cX4_can.data.toList.drop 0 = dktX4_can_0 := by decide +kernel
theorem dX4_can_0 : decode cX4_can 0 = .ok (.iload_n 2, 1) := dk_28 (dk_at dksX4_can_0 0 rfl rfl)
theorem dX4_can_1 : decode cX4_can 1 = .ok (.ifCond .ne 12, 3) := dk_154 0 12 (dk_at dksX4_can_0 1 rfl rfl)
theorem dX4_can_4 : decode cX4_can 4 = .ok (.iload_n 1, 1) := dk_27 (dk_at dksX4_can_0 4 rfl rfl)
theorem dX4_can_5 : decode cX4_can 5 = .ok (.iconst 2, 1) := dk_5 (dk_at dksX4_can_0 5 rfl rfl)
theorem dX4_can_6 : decode cX4_can 6 = .ok (.if_icmp .gt 7, 3) := dk_163 0 7 (dk_at dksX4_can_0 6 rfl rfl)
theorem dX4_can_9 : decode cX4_can 9 = .ok (.iconst 1, 1) := dk_4 (dk_at dksX4_can_0 9 rfl rfl)
theorem dX4_can_10 : decode cX4_can 10 = .ok (.goto 4, 3) := dk_167 0 4 (dk_at dksX4_can_0 10 rfl rfl)
theorem dX4_can_13 : decode cX4_can 13 = .ok (.iconst 0, 1) := dk_3 (dk_at dksX4_can_0 13 rfl rfl)
theorem dX4_can_14 : decode cX4_can 14 = .ok (.ireturn, 1) := dk_172 (dk_at dksX4_can_0 14 rfl rfl)
abbrev cX4_fee : ByteArray := prog_8_method_2_code
def yX4_fee : MethodName := ⟨RX4, "fee", "()I"⟩
theorem dX4_fee_0 : decode cX4_fee 0 = .ok (.iconst 1, 1) := by decide +kernel
theorem dX4_fee_1 : decode cX4_fee 1 = .ok (.ireturn, 1) := by decide +kernel
theorem q88 : (Jvm.Cond.initialized "QueryHarbor$KeyStore") ∈ lw_all := lw_g (lw_at lw_m1 4 rfl) rfl
theorem q187 : (Jvm.Cond.instantiable "QueryHarbor$KeyStore" (0 : Nat)) ∈ lw_all := lw_g (lw_at lw_m1 103 rfl) rfl
theorem q189 : (Jvm.Cond.instanceMethod ({ cls := "QueryHarbor$KeyStore", name := "<init>", desc := "()V" } : Jvm.MethodName)) ∈ lw_all := lw_g (lw_at lw_m1 105 rfl) rfl
theorem q190 : (Jvm.Cond.code ({ cls := "QueryHarbor$KeyStore", name := "<init>", desc := "()V" } : Jvm.MethodName) prog_8_method_1_code (1 : Nat) (Option.none : Option Jvm.ClassFile.FieldType)) ∈ lw_all := lw_g (lw_at lw_m1 106 rfl) rfl
theorem q191 : (Jvm.Cond.methodLink "QueryHarbor$KeyStore" (3 : Nat) ({ cls := "java/lang/Object", name := "<init>", desc := "()V" } : Jvm.MethodName)) ∈ lw_all := lw_g (lw_at lw_m1 107 rfl) rfl
theorem q192 : (Jvm.Cond.superclass "QueryHarbor$KeyStore" "java/lang/Object") ∈ lw_all := lw_g (lw_at lw_m1 108 rfl) rfl
theorem q529 : (Jvm.Cond.castable "QueryHarbor$KeyStore" "QueryHarbor$Store") ∈ lw_tbl := lw_at lw_m2 205 rfl
theorem q530 : (Jvm.Cond.selects "QueryHarbor$KeyStore" ({ cls := "QueryHarbor$Store", name := "isFit", desc := "(II)Z" } : Jvm.MethodName) ({ cls := "QueryHarbor$KeyStore", name := "isFit", desc := "(II)Z" } : Jvm.MethodName)) ∈ lw_all := lw_g (lw_at lw_m2 206 rfl) rfl
theorem q531 : (Jvm.Cond.unhidden "QueryHarbor$KeyStore" "isFit" "(II)Z") ∈ lw_tbl := lw_at lw_m2 207 rfl
theorem q532 : (Jvm.Cond.instanceMethod ({ cls := "QueryHarbor$KeyStore", name := "isFit", desc := "(II)Z" } : Jvm.MethodName)) ∈ lw_all := lw_g (lw_at lw_m2 208 rfl) rfl
theorem q533 : (Jvm.Cond.publicMethod ({ cls := "QueryHarbor$KeyStore", name := "isFit", desc := "(II)Z" } : Jvm.MethodName)) ∈ lw_tbl := lw_at lw_m2 209 rfl
theorem q534 : (Jvm.Cond.code ({ cls := "QueryHarbor$KeyStore", name := "isFit", desc := "(II)Z" } : Jvm.MethodName) prog_8_method_5_code (3 : Nat) (Option.some Jvm.ClassFile.FieldType.boolean)) ∈ lw_all := lw_g (lw_at lw_m2 210 rfl) rfl
theorem q535 : (Jvm.Cond.methodLinkNest "QueryHarbor$KeyStore" (9 : Nat) ({ cls := "QueryHarbor", name := "isKey", desc := "(I)Z" } : Jvm.MethodName) "QueryHarbor") ∈ lw_tbl := lw_at lw_m2 211 rfl
theorem q536 : (Jvm.Cond.methodLink "QueryHarbor$KeyStore" (13 : Nat) ({ cls := "QueryHarbor$Store", name := "isFit", desc := "(II)Z" } : Jvm.MethodName)) ∈ lw_all := lw_g (lw_at lw_m2 212 rfl) rfl
theorem q568 : (Jvm.Cond.unhidden "QueryHarbor$KeyStore" "hasKey" "()Z") ∈ lw_tbl := lw_at lw_m3 4 rfl
theorem q621 : (Jvm.Cond.selects "QueryHarbor$KeyStore" ({ cls := "QueryHarbor$Store", name := "kept", desc := "(II)I" } : Jvm.MethodName) ({ cls := "QueryHarbor$KeyStore", name := "kept", desc := "(II)I" } : Jvm.MethodName)) ∈ lw_all := lw_g (lw_at lw_m3 57 rfl) rfl
theorem q622 : (Jvm.Cond.unhidden "QueryHarbor$KeyStore" "kept" "(II)I") ∈ lw_tbl := lw_at lw_m3 58 rfl
theorem q623 : (Jvm.Cond.instanceMethod ({ cls := "QueryHarbor$KeyStore", name := "kept", desc := "(II)I" } : Jvm.MethodName)) ∈ lw_all := lw_g (lw_at lw_m3 59 rfl) rfl
theorem q624 : (Jvm.Cond.publicMethod ({ cls := "QueryHarbor$KeyStore", name := "kept", desc := "(II)I" } : Jvm.MethodName)) ∈ lw_tbl := lw_at lw_m3 60 rfl
theorem q625 : (Jvm.Cond.code ({ cls := "QueryHarbor$KeyStore", name := "kept", desc := "(II)I" } : Jvm.MethodName) prog_8_method_6_code (3 : Nat) (Option.some Jvm.ClassFile.FieldType.int)) ∈ lw_all := lw_g (lw_at lw_m3 61 rfl) rfl
theorem q626 : (Jvm.Cond.methodLink "QueryHarbor$KeyStore" (19 : Nat) ({ cls := "java/lang/Math", name := "min", desc := "(II)I" } : Jvm.MethodName)) ∈ lw_all := lw_g (lw_at lw_m3 62 rfl) rfl
theorem q629 : (Jvm.Cond.methodLink "QueryHarbor$KeyStore" (25 : Nat) ({ cls := "java/lang/Math", name := "max", desc := "(II)I" } : Jvm.MethodName)) ∈ lw_all := lw_g (lw_at lw_m3 65 rfl) rfl
theorem q929 : (Jvm.Cond.selects "QueryHarbor$KeyStore" ({ cls := "java/lang/Object", name := "getClass", desc := "()Ljava/lang/Class;" } : Jvm.MethodName) ({ cls := "java/lang/Object", name := "getClass", desc := "()Ljava/lang/Class;" } : Jvm.MethodName)) ∈ lw_all := lw_g (lw_at lw_m4 125 rfl) rfl
theorem q1045 : (Jvm.Cond.selects "QueryHarbor$KeyStore" ({ cls := "QueryHarbor$Store", name := "columns", desc := "()I" } : Jvm.MethodName) ({ cls := "QueryHarbor$KeyStore", name := "columns", desc := "()I" } : Jvm.MethodName)) ∈ lw_all := lw_g (lw_at lw_m5 1 rfl) rfl
theorem q1046 : (Jvm.Cond.unhidden "QueryHarbor$KeyStore" "columns" "()I") ∈ lw_tbl := lw_at lw_m5 2 rfl
theorem q1047 : (Jvm.Cond.instanceMethod ({ cls := "QueryHarbor$KeyStore", name := "columns", desc := "()I" } : Jvm.MethodName)) ∈ lw_all := lw_g (lw_at lw_m5 3 rfl) rfl
theorem q1048 : (Jvm.Cond.publicMethod ({ cls := "QueryHarbor$KeyStore", name := "columns", desc := "()I" } : Jvm.MethodName)) ∈ lw_tbl := lw_at lw_m5 4 rfl
theorem q1049 : (Jvm.Cond.code ({ cls := "QueryHarbor$KeyStore", name := "columns", desc := "()I" } : Jvm.MethodName) prog_8_method_3_code (1 : Nat) (Option.some Jvm.ClassFile.FieldType.int)) ∈ lw_all := lw_g (lw_at lw_m5 5 rfl) rfl
theorem q1278 : (Jvm.Cond.selects "QueryHarbor$KeyStore" ({ cls := "QueryHarbor$Store", name := "can", desc := "(II)Z" } : Jvm.MethodName) ({ cls := "QueryHarbor$KeyStore", name := "can", desc := "(II)Z" } : Jvm.MethodName)) ∈ lw_all := lw_g (lw_at lw_m5 234 rfl) rfl
theorem q1279 : (Jvm.Cond.unhidden "QueryHarbor$KeyStore" "can" "(II)Z") ∈ lw_tbl := lw_at lw_m5 235 rfl
theorem q1280 : (Jvm.Cond.instanceMethod ({ cls := "QueryHarbor$KeyStore", name := "can", desc := "(II)Z" } : Jvm.MethodName)) ∈ lw_all := lw_g (lw_at lw_m5 236 rfl) rfl
theorem q1281 : (Jvm.Cond.publicMethod ({ cls := "QueryHarbor$KeyStore", name := "can", desc := "(II)Z" } : Jvm.MethodName)) ∈ lw_tbl := lw_at lw_m5 237 rfl
theorem q1282 : (Jvm.Cond.code ({ cls := "QueryHarbor$KeyStore", name := "can", desc := "(II)Z" } : Jvm.MethodName) prog_8_method_4_code (3 : Nat) (Option.some Jvm.ClassFile.FieldType.boolean)) ∈ lw_all := lw_g (lw_at lw_m5 238 rfl) rfl
theorem q1386 : (Jvm.Cond.selects "QueryHarbor$KeyStore" ({ cls := "QueryHarbor$Store", name := "fee", desc := "()I" } : Jvm.MethodName) ({ cls := "QueryHarbor$KeyStore", name := "fee", desc := "()I" } : Jvm.MethodName)) ∈ lw_all := lw_g (lw_at lw_m6 102 rfl) rfl
theorem q1387 : (Jvm.Cond.unhidden "QueryHarbor$KeyStore" "fee" "()I") ∈ lw_tbl := lw_at lw_m6 103 rfl
theorem q1388 : (Jvm.Cond.instanceMethod ({ cls := "QueryHarbor$KeyStore", name := "fee", desc := "()I" } : Jvm.MethodName)) ∈ lw_all := lw_g (lw_at lw_m6 104 rfl) rfl
theorem q1389 : (Jvm.Cond.publicMethod ({ cls := "QueryHarbor$KeyStore", name := "fee", desc := "()I" } : Jvm.MethodName)) ∈ lw_tbl := lw_at lw_m6 105 rfl
theorem q1390 : (Jvm.Cond.code ({ cls := "QueryHarbor$KeyStore", name := "fee", desc := "()I" } : Jvm.MethodName) prog_8_method_2_code (1 : Nat) (Option.some Jvm.ClassFile.FieldType.int)) ∈ lw_all := lw_g (lw_at lw_m6 106 rfl) rfl
theorem q1405 : (Jvm.Cond.unhidden "QueryHarbor$KeyStore" "freight" "()I") ∈ lw_tbl := lw_at lw_m6 121 rfl
theorem q2340 : (Jvm.Cond.castable "QueryHarbor$KeyStore" "java/lang/Object") ∈ lw_tbl := lw_at lw_m10 96 rfl
/-! QueryHarbor$DocumentStore -/
set_option maxRecDepth 100000
def RX5 : String := "QueryHarbor$DocumentStore"
abbrev cX5_init : ByteArray := prog_4_method_1_code
def yX5_init : MethodName := ⟨RX5, "<init>", "()V"⟩
theorem dX5_init_0 : decode cX5_init 0 = .ok (.aload_n 0, 1) := by decide +kernel
theorem dX5_init_1 : decode cX5_init 1 = .ok (.invokespecial 3, 3) := by decide +kernel
theorem dX5_init_4 : decode cX5_init 4 = .ok (.return_, 1) := by decide +kernel
abbrev cX5_isFit : ByteArray := prog_4_method_5_code
def yX5_isFit : MethodName := ⟨RX5, "isFit", "(II)Z"⟩
def dkwX5_isFit_1 : List UInt8 := [153, 0, 7, 4, 167, 0, 4, 3, 172]
abbrev dktX5_isFit_1 : List UInt8 := dkwX5_isFit_1 ++ []
def dkwX5_isFit_0 : List UInt8 := [27, 154, 0, 10, 28, 184, 0, 9, 167, 0, 24, 28, 17, 19, 137, 159, 0, 12, 42, 27, 28, 183, 0, 13]
abbrev dktX5_isFit_0 : List UInt8 := dkwX5_isFit_0 ++ dktX5_isFit_1
theorem dksX5_isFit_0 : cX5_isFit.data.toList.drop 0 = dktX5_isFit_0 := by decide +kernel
theorem dksX5_isFit_1 : cX5_isFit.data.toList.drop 24 = dktX5_isFit_1 := dk_seg dksX5_isFit_0 24 rfl rfl
theorem dX5_isFit_0 : decode cX5_isFit 0 = .ok (.iload_n 1, 1) := dk_27 (dk_at dksX5_isFit_0 0 rfl rfl)
theorem dX5_isFit_1 : decode cX5_isFit 1 = .ok (.ifCond .ne 10, 3) := dk_154 0 10 (dk_at dksX5_isFit_0 1 rfl rfl)
theorem dX5_isFit_4 : decode cX5_isFit 4 = .ok (.iload_n 2, 1) := dk_28 (dk_at dksX5_isFit_0 4 rfl rfl)
theorem dX5_isFit_5 : decode cX5_isFit 5 = .ok (.invokestatic 9, 3) := dk_184 0 9 (dk_at dksX5_isFit_0 5 rfl rfl)
theorem dX5_isFit_8 : decode cX5_isFit 8 = .ok (.goto 24, 3) := dk_167 0 24 (dk_at dksX5_isFit_0 8 rfl rfl)
theorem dX5_isFit_11 : decode cX5_isFit 11 = .ok (.iload_n 2, 1) := dk_28 (dk_at dksX5_isFit_0 11 rfl rfl)
theorem dX5_isFit_12 : decode cX5_isFit 12 = .ok (.sipush 5001, 3) := dk_17 19 137 (dk_at dksX5_isFit_0 12 rfl rfl)
theorem dX5_isFit_15 : decode cX5_isFit 15 = .ok (.if_icmp .eq 12, 3) := dk_159 0 12 (dk_at dksX5_isFit_0 15 rfl rfl)
theorem dX5_isFit_18 : decode cX5_isFit 18 = .ok (.aload_n 0, 1) := dk_42 (dk_at dksX5_isFit_0 18 rfl rfl)
theorem dX5_isFit_19 : decode cX5_isFit 19 = .ok (.iload_n 1, 1) := dk_27 (dk_at dksX5_isFit_0 19 rfl rfl)
theorem dX5_isFit_20 : decode cX5_isFit 20 = .ok (.iload_n 2, 1) := dk_28 (dk_at dksX5_isFit_0 20 rfl rfl)
theorem dX5_isFit_21 : decode cX5_isFit 21 = .ok (.invokespecial 13, 3) := dk_183 0 13 (dk_at dksX5_isFit_0 21 rfl rfl)
theorem dX5_isFit_24 : decode cX5_isFit 24 = .ok (.ifCond .eq 7, 3) := dk_153 0 7 (dk_at dksX5_isFit_1 0 rfl rfl)
theorem dX5_isFit_27 : decode cX5_isFit 27 = .ok (.iconst 1, 1) := dk_4 (dk_at dksX5_isFit_1 3 rfl rfl)
theorem dX5_isFit_28 : decode cX5_isFit 28 = .ok (.goto 4, 3) := dk_167 0 4 (dk_at dksX5_isFit_1 4 rfl rfl)
theorem dX5_isFit_31 : decode cX5_isFit 31 = .ok (.iconst 0, 1) := dk_3 (dk_at dksX5_isFit_1 7 rfl rfl)
theorem dX5_isFit_32 : decode cX5_isFit 32 = .ok (.ireturn, 1) := dk_172 (dk_at dksX5_isFit_1 8 rfl rfl)
abbrev cX5_can : ByteArray := prog_4_method_4_code
def yX5_can : MethodName := ⟨RX5, "can", "(II)Z"⟩
def dkwX5_can_0 : List UInt8 := [27, 153, 0, 17, 27, 7, 159, 0, 12, 28, 154, 0, 12, 27, 5, 163, 0, 7, 4, 167, 0, 4, 3, 172]
abbrev dktX5_can_0 : List UInt8 := dkwX5_can_0 ++ []
theorem dksX5_can_0 : cX5_can.data.toList.drop 0 = dktX5_can_0 := by decide +kernel
theorem dX5_can_0 : decode cX5_can 0 = .ok (.iload_n 1, 1) := dk_27 (dk_at dksX5_can_0 0 rfl rfl)
theorem dX5_can_1 : decode cX5_can 1 = .ok (.ifCond .eq 17, 3) := dk_153 0 17 (dk_at dksX5_can_0 1 rfl rfl)
theorem dX5_can_4 : decode cX5_can 4 = .ok (.iload_n 1, 1) := dk_27 (dk_at dksX5_can_0 4 rfl rfl)
theorem dX5_can_5 : decode cX5_can 5 = .ok (.iconst 4, 1) := dk_7 (dk_at dksX5_can_0 5 rfl rfl)
theorem dX5_can_6 : decode cX5_can 6 = .ok (.if_icmp .eq 12, 3) := dk_159 0 12 (dk_at dksX5_can_0 6 rfl rfl)
theorem dX5_can_9 : decode cX5_can 9 = .ok (.iload_n 2, 1) := dk_28 (dk_at dksX5_can_0 9 rfl rfl)
theorem dX5_can_10 : decode cX5_can 10 = .ok (.ifCond .ne 12, 3) := dk_154 0 12 (dk_at dksX5_can_0 10 rfl rfl)
theorem dX5_can_13 : decode cX5_can 13 = .ok (.iload_n 1, 1) := dk_27 (dk_at dksX5_can_0 13 rfl rfl)
theorem dX5_can_14 : decode cX5_can 14 = .ok (.iconst 2, 1) := dk_5 (dk_at dksX5_can_0 14 rfl rfl)
theorem dX5_can_15 : decode cX5_can 15 = .ok (.if_icmp .gt 7, 3) := dk_163 0 7 (dk_at dksX5_can_0 15 rfl rfl)
theorem dX5_can_18 : decode cX5_can 18 = .ok (.iconst 1, 1) := dk_4 (dk_at dksX5_can_0 18 rfl rfl)
theorem dX5_can_19 : decode cX5_can 19 = .ok (.goto 4, 3) := dk_167 0 4 (dk_at dksX5_can_0 19 rfl rfl)
theorem dX5_can_22 : decode cX5_can 22 = .ok (.iconst 0, 1) := dk_3 (dk_at dksX5_can_0 22 rfl rfl)
theorem dX5_can_23 : decode cX5_can 23 = .ok (.ireturn, 1) := dk_172 (dk_at dksX5_can_0 23 rfl rfl)
abbrev cX5_fee : ByteArray := prog_4_method_2_code
def yX5_fee : MethodName := ⟨RX5, "fee", "()I"⟩
theorem dX5_fee_0 : decode cX5_fee 0 = .ok (.iconst 3, 1) := by decide +kernel
theorem dX5_fee_1 : decode cX5_fee 1 = .ok (.ireturn, 1) := by decide +kernel
abbrev cX5_freight : ByteArray := prog_4_method_3_code
def yX5_freight : MethodName := ⟨RX5, "freight", "()I"⟩
theorem dX5_freight_0 : decode cX5_freight 0 = .ok (.iconst 2, 1) := by decide +kernel
theorem dX5_freight_1 : decode cX5_freight 1 = .ok (.ireturn, 1) := by decide +kernel
theorem q89 : (Jvm.Cond.initialized "QueryHarbor$DocumentStore") ∈ lw_all := lw_g (lw_at lw_m1 5 rfl) rfl
theorem q194 : (Jvm.Cond.instantiable "QueryHarbor$DocumentStore" (0 : Nat)) ∈ lw_all := lw_g (lw_at lw_m1 110 rfl) rfl
theorem q196 : (Jvm.Cond.instanceMethod ({ cls := "QueryHarbor$DocumentStore", name := "<init>", desc := "()V" } : Jvm.MethodName)) ∈ lw_all := lw_g (lw_at lw_m1 112 rfl) rfl
theorem q197 : (Jvm.Cond.code ({ cls := "QueryHarbor$DocumentStore", name := "<init>", desc := "()V" } : Jvm.MethodName) prog_4_method_1_code (1 : Nat) (Option.none : Option Jvm.ClassFile.FieldType)) ∈ lw_all := lw_g (lw_at lw_m1 113 rfl) rfl
theorem q198 : (Jvm.Cond.methodLink "QueryHarbor$DocumentStore" (3 : Nat) ({ cls := "java/lang/Object", name := "<init>", desc := "()V" } : Jvm.MethodName)) ∈ lw_all := lw_g (lw_at lw_m1 114 rfl) rfl
theorem q199 : (Jvm.Cond.superclass "QueryHarbor$DocumentStore" "java/lang/Object") ∈ lw_all := lw_g (lw_at lw_m1 115 rfl) rfl
theorem q514 : (Jvm.Cond.castable "QueryHarbor$DocumentStore" "QueryHarbor$Store") ∈ lw_tbl := lw_at lw_m2 190 rfl
theorem q515 : (Jvm.Cond.selects "QueryHarbor$DocumentStore" ({ cls := "QueryHarbor$Store", name := "isFit", desc := "(II)Z" } : Jvm.MethodName) ({ cls := "QueryHarbor$DocumentStore", name := "isFit", desc := "(II)Z" } : Jvm.MethodName)) ∈ lw_all := lw_g (lw_at lw_m2 191 rfl) rfl
theorem q516 : (Jvm.Cond.unhidden "QueryHarbor$DocumentStore" "isFit" "(II)Z") ∈ lw_tbl := lw_at lw_m2 192 rfl
theorem q517 : (Jvm.Cond.instanceMethod ({ cls := "QueryHarbor$DocumentStore", name := "isFit", desc := "(II)Z" } : Jvm.MethodName)) ∈ lw_all := lw_g (lw_at lw_m2 193 rfl) rfl
theorem q518 : (Jvm.Cond.publicMethod ({ cls := "QueryHarbor$DocumentStore", name := "isFit", desc := "(II)Z" } : Jvm.MethodName)) ∈ lw_tbl := lw_at lw_m2 194 rfl
theorem q519 : (Jvm.Cond.code ({ cls := "QueryHarbor$DocumentStore", name := "isFit", desc := "(II)Z" } : Jvm.MethodName) prog_4_method_5_code (3 : Nat) (Option.some Jvm.ClassFile.FieldType.boolean)) ∈ lw_all := lw_g (lw_at lw_m2 195 rfl) rfl
theorem q520 : (Jvm.Cond.methodLinkNest "QueryHarbor$DocumentStore" (9 : Nat) ({ cls := "QueryHarbor", name := "isKey", desc := "(I)Z" } : Jvm.MethodName) "QueryHarbor") ∈ lw_tbl := lw_at lw_m2 196 rfl
theorem q523 : (Jvm.Cond.methodLink "QueryHarbor$DocumentStore" (13 : Nat) ({ cls := "QueryHarbor$Store", name := "isFit", desc := "(II)Z" } : Jvm.MethodName)) ∈ lw_all := lw_g (lw_at lw_m2 199 rfl) rfl
theorem q564 : (Jvm.Cond.unhidden "QueryHarbor$DocumentStore" "hasKey" "()Z") ∈ lw_tbl := lw_at lw_m3 0 rfl
theorem q617 : (Jvm.Cond.unhidden "QueryHarbor$DocumentStore" "kept" "(II)I") ∈ lw_tbl := lw_at lw_m3 53 rfl
theorem q925 : (Jvm.Cond.selects "QueryHarbor$DocumentStore" ({ cls := "java/lang/Object", name := "getClass", desc := "()Ljava/lang/Class;" } : Jvm.MethodName) ({ cls := "java/lang/Object", name := "getClass", desc := "()Ljava/lang/Class;" } : Jvm.MethodName)) ∈ lw_all := lw_g (lw_at lw_m4 121 rfl) rfl
theorem q1041 : (Jvm.Cond.unhidden "QueryHarbor$DocumentStore" "columns" "()I") ∈ lw_tbl := lw_at lw_m4 237 rfl
theorem q1273 : (Jvm.Cond.selects "QueryHarbor$DocumentStore" ({ cls := "QueryHarbor$Store", name := "can", desc := "(II)Z" } : Jvm.MethodName) ({ cls := "QueryHarbor$DocumentStore", name := "can", desc := "(II)Z" } : Jvm.MethodName)) ∈ lw_all := lw_g (lw_at lw_m5 229 rfl) rfl
theorem q1274 : (Jvm.Cond.unhidden "QueryHarbor$DocumentStore" "can" "(II)Z") ∈ lw_tbl := lw_at lw_m5 230 rfl
theorem q1275 : (Jvm.Cond.instanceMethod ({ cls := "QueryHarbor$DocumentStore", name := "can", desc := "(II)Z" } : Jvm.MethodName)) ∈ lw_all := lw_g (lw_at lw_m5 231 rfl) rfl
theorem q1276 : (Jvm.Cond.publicMethod ({ cls := "QueryHarbor$DocumentStore", name := "can", desc := "(II)Z" } : Jvm.MethodName)) ∈ lw_tbl := lw_at lw_m5 232 rfl
theorem q1277 : (Jvm.Cond.code ({ cls := "QueryHarbor$DocumentStore", name := "can", desc := "(II)Z" } : Jvm.MethodName) prog_4_method_4_code (3 : Nat) (Option.some Jvm.ClassFile.FieldType.boolean)) ∈ lw_all := lw_g (lw_at lw_m5 233 rfl) rfl
theorem q1381 : (Jvm.Cond.selects "QueryHarbor$DocumentStore" ({ cls := "QueryHarbor$Store", name := "fee", desc := "()I" } : Jvm.MethodName) ({ cls := "QueryHarbor$DocumentStore", name := "fee", desc := "()I" } : Jvm.MethodName)) ∈ lw_all := lw_g (lw_at lw_m6 97 rfl) rfl
theorem q1382 : (Jvm.Cond.unhidden "QueryHarbor$DocumentStore" "fee" "()I") ∈ lw_tbl := lw_at lw_m6 98 rfl
theorem q1383 : (Jvm.Cond.instanceMethod ({ cls := "QueryHarbor$DocumentStore", name := "fee", desc := "()I" } : Jvm.MethodName)) ∈ lw_all := lw_g (lw_at lw_m6 99 rfl) rfl
theorem q1384 : (Jvm.Cond.publicMethod ({ cls := "QueryHarbor$DocumentStore", name := "fee", desc := "()I" } : Jvm.MethodName)) ∈ lw_tbl := lw_at lw_m6 100 rfl
theorem q1385 : (Jvm.Cond.code ({ cls := "QueryHarbor$DocumentStore", name := "fee", desc := "()I" } : Jvm.MethodName) prog_4_method_2_code (1 : Nat) (Option.some Jvm.ClassFile.FieldType.int)) ∈ lw_all := lw_g (lw_at lw_m6 101 rfl) rfl
theorem q1400 : (Jvm.Cond.selects "QueryHarbor$DocumentStore" ({ cls := "QueryHarbor$Store", name := "freight", desc := "()I" } : Jvm.MethodName) ({ cls := "QueryHarbor$DocumentStore", name := "freight", desc := "()I" } : Jvm.MethodName)) ∈ lw_all := lw_g (lw_at lw_m6 116 rfl) rfl
theorem q1401 : (Jvm.Cond.unhidden "QueryHarbor$DocumentStore" "freight" "()I") ∈ lw_tbl := lw_at lw_m6 117 rfl
theorem q1402 : (Jvm.Cond.instanceMethod ({ cls := "QueryHarbor$DocumentStore", name := "freight", desc := "()I" } : Jvm.MethodName)) ∈ lw_all := lw_g (lw_at lw_m6 118 rfl) rfl
theorem q1403 : (Jvm.Cond.publicMethod ({ cls := "QueryHarbor$DocumentStore", name := "freight", desc := "()I" } : Jvm.MethodName)) ∈ lw_tbl := lw_at lw_m6 119 rfl
theorem q1404 : (Jvm.Cond.code ({ cls := "QueryHarbor$DocumentStore", name := "freight", desc := "()I" } : Jvm.MethodName) prog_4_method_3_code (1 : Nat) (Option.some Jvm.ClassFile.FieldType.int)) ∈ lw_all := lw_g (lw_at lw_m6 120 rfl) rfl
theorem q2341 : (Jvm.Cond.castable "QueryHarbor$DocumentStore" "java/lang/Object") ∈ lw_tbl := lw_at lw_m10 97 rfl
/-! QueryHarbor$Answer -/
set_option maxRecDepth 100000
def RX6 : String := "QueryHarbor$Answer"
def TX6 : u_T := fun k => match k with
  | 0 => ("QueryHarbor$Answer", "rows", "Ljava/util/ArrayList;", true)
  | 1 => ("QueryHarbor$Answer", "taken", "Ljava/util/ArrayList;", true)
  | 2 => ("QueryHarbor$Answer", "missing", "I", false)
  | 3 => ("QueryHarbor$Answer", "claims", "I", false)
  | 4 => ("QueryHarbor$Answer", "cost", "I", false)
  | 5 => ("QueryHarbor$Answer", "attempts", "I", false)
  | _ => ("QueryHarbor$Answer", "shipped", "I", false)
def tyX6 : Nat → FieldType := fun k => match k with
  | 0 => .object "java/util/ArrayList"
  | 1 => .object "java/util/ArrayList"
  | 2 => .int
  | 3 => .int
  | 4 => .int
  | 5 => .int
  | _ => .int
abbrev wsX60 : List Cond := u_ws RX6 TX6 7
theorem nmX6 : ∀ a, a < 7 → ∀ b, b < 7 → a ≠ b → (TX6 a).2.1 ≠ (TX6 b).2.1 := by decide +kernel
theorem tyX6_ok : ∀ k, k < 7 → parseFieldDescriptor (TX6 k).2.2.1 = some (tyX6 k) := by decide +kernel
abbrev cX6_init : ByteArray := prog_2_method_1_code
def yX6_init : MethodName := ⟨RX6, "<init>", "()V"⟩
def dkwX6_init_1 : List UInt8 := [181, 0, 18, 42, 2, 181, 0, 21, 177]
abbrev dktX6_init_1 : List UInt8 := dkwX6_init_1 ++ []
def dkwX6_init_0 : List UInt8 := [42, 183, 0, 3, 42, 187, 0, 9, 89, 183, 0, 11, 181, 0, 12, 42, 187, 0, 9, 89, 183, 0, 11]
abbrev dktX6_init_0 : List UInt8 := dkwX6_init_0 ++ dktX6_init_1
theorem dksX6_init_0 : cX6_init.data.toList.drop 0 = dktX6_init_0 := by decide +kernel
theorem dksX6_init_1 : cX6_init.data.toList.drop 23 = dktX6_init_1 := dk_seg dksX6_init_0 23 rfl rfl
theorem dX6_init_0 : decode cX6_init 0 = .ok (.aload_n 0, 1) := dk_42 (dk_at dksX6_init_0 0 rfl rfl)
theorem dX6_init_1 : decode cX6_init 1 = .ok (.invokespecial 3, 3) := dk_183 0 3 (dk_at dksX6_init_0 1 rfl rfl)
theorem dX6_init_4 : decode cX6_init 4 = .ok (.aload_n 0, 1) := dk_42 (dk_at dksX6_init_0 4 rfl rfl)
theorem dX6_init_5 : decode cX6_init 5 = .ok (.new 9, 3) := dk_187 0 9 (dk_at dksX6_init_0 5 rfl rfl)
theorem dX6_init_8 : decode cX6_init 8 = .ok (.dup, 1) := dk_89 (dk_at dksX6_init_0 8 rfl rfl)
theorem dX6_init_9 : decode cX6_init 9 = .ok (.invokespecial 11, 3) := dk_183 0 11 (dk_at dksX6_init_0 9 rfl rfl)
theorem dX6_init_12 : decode cX6_init 12 = .ok (.putfield 12, 3) := dk_181 0 12 (dk_at dksX6_init_0 12 rfl rfl)
theorem dX6_init_15 : decode cX6_init 15 = .ok (.aload_n 0, 1) := dk_42 (dk_at dksX6_init_0 15 rfl rfl)
theorem dX6_init_16 : decode cX6_init 16 = .ok (.new 9, 3) := dk_187 0 9 (dk_at dksX6_init_0 16 rfl rfl)
theorem dX6_init_19 : decode cX6_init 19 = .ok (.dup, 1) := dk_89 (dk_at dksX6_init_0 19 rfl rfl)
theorem dX6_init_20 : decode cX6_init 20 = .ok (.invokespecial 11, 3) := dk_183 0 11 (dk_at dksX6_init_0 20 rfl rfl)
theorem dX6_init_23 : decode cX6_init 23 = .ok (.putfield 18, 3) := dk_181 0 18 (dk_at dksX6_init_1 0 rfl rfl)
theorem dX6_init_26 : decode cX6_init 26 = .ok (.aload_n 0, 1) := dk_42 (dk_at dksX6_init_1 3 rfl rfl)
theorem dX6_init_27 : decode cX6_init 27 = .ok (.iconst (-1), 1) := dk_2 (dk_at dksX6_init_1 4 rfl rfl)
theorem dX6_init_28 : decode cX6_init 28 = .ok (.putfield 21, 3) := dk_181 0 21 (dk_at dksX6_init_1 5 rfl rfl)
theorem dX6_init_31 : decode cX6_init 31 = .ok (.return_, 1) := dk_177 (dk_at dksX6_init_1 8 rfl rfl)
theorem q93 : (Jvm.Cond.initialized "QueryHarbor$Answer") ∈ lw_all := lw_g (lw_at lw_m1 9 rfl) rfl
theorem q232 : (Jvm.Cond.instantiable "QueryHarbor$Answer" (7 : Nat)) ∈ lw_all := lw_g (lw_at lw_m1 148 rfl) rfl
theorem q234 : (Jvm.Cond.instanceMethod ({ cls := "QueryHarbor$Answer", name := "<init>", desc := "()V" } : Jvm.MethodName)) ∈ lw_all := lw_g (lw_at lw_m1 150 rfl) rfl
theorem q235 : (Jvm.Cond.code ({ cls := "QueryHarbor$Answer", name := "<init>", desc := "()V" } : Jvm.MethodName) prog_2_method_1_code (1 : Nat) (Option.none : Option Jvm.ClassFile.FieldType)) ∈ lw_all := lw_g (lw_at lw_m1 151 rfl) rfl
theorem q236 : (Jvm.Cond.methodLink "QueryHarbor$Answer" (3 : Nat) ({ cls := "java/lang/Object", name := "<init>", desc := "()V" } : Jvm.MethodName)) ∈ lw_all := lw_g (lw_at lw_m1 152 rfl) rfl
theorem q237 : (Jvm.Cond.classLink "QueryHarbor$Answer" (9 : Nat) "java/util/ArrayList") ∈ lw_all := lw_g (lw_at lw_m1 153 rfl) rfl
theorem q238 : (Jvm.Cond.methodLink "QueryHarbor$Answer" (11 : Nat) ({ cls := "java/util/ArrayList", name := "<init>", desc := "()V" } : Jvm.MethodName)) ∈ lw_all := lw_g (lw_at lw_m1 154 rfl) rfl
theorem q239 : (Jvm.Cond.fieldLink "QueryHarbor$Answer" (12 : Nat) "QueryHarbor$Answer" "rows" "Ljava/util/ArrayList;") ∈ lw_all := lw_g (lw_at lw_m1 155 rfl) rfl
theorem q241 : (Jvm.Cond.fieldLink "QueryHarbor$Answer" (18 : Nat) "QueryHarbor$Answer" "taken" "Ljava/util/ArrayList;") ∈ lw_all := lw_g (lw_at lw_m1 157 rfl) rfl
theorem q244 : (Jvm.Cond.fieldLink "QueryHarbor$Answer" (21 : Nat) "QueryHarbor$Answer" "claims" "I") ∈ lw_all := lw_g (lw_at lw_m1 160 rfl) rfl
theorem q249 : (Jvm.Cond.laysFinal "QueryHarbor$Answer" "QueryHarbor$Answer" "rows" "Ljava/util/ArrayList;") ∈ lw_all := lw_g (lw_at lw_m1 165 rfl) rfl
theorem q250 : (Jvm.Cond.soleField "QueryHarbor$Answer" "rows") ∈ lw_all := lw_g (lw_at lw_m1 166 rfl) rfl
theorem q251 : (Jvm.Cond.laysFinal "QueryHarbor$Answer" "QueryHarbor$Answer" "taken" "Ljava/util/ArrayList;") ∈ lw_all := lw_g (lw_at lw_m1 167 rfl) rfl
theorem q252 : (Jvm.Cond.soleField "QueryHarbor$Answer" "taken") ∈ lw_all := lw_g (lw_at lw_m1 168 rfl) rfl
theorem q253 : (Jvm.Cond.lays "QueryHarbor$Answer" "QueryHarbor$Answer" "missing" "I") ∈ lw_all := lw_g (lw_at lw_m1 169 rfl) rfl
theorem q254 : (Jvm.Cond.soleField "QueryHarbor$Answer" "missing") ∈ lw_all := lw_g (lw_at lw_m1 170 rfl) rfl
theorem q255 : (Jvm.Cond.lays "QueryHarbor$Answer" "QueryHarbor$Answer" "claims" "I") ∈ lw_all := lw_g (lw_at lw_m1 171 rfl) rfl
theorem q256 : (Jvm.Cond.soleField "QueryHarbor$Answer" "claims") ∈ lw_all := lw_g (lw_at lw_m1 172 rfl) rfl
theorem q257 : (Jvm.Cond.lays "QueryHarbor$Answer" "QueryHarbor$Answer" "cost" "I") ∈ lw_all := lw_g (lw_at lw_m1 173 rfl) rfl
theorem q258 : (Jvm.Cond.soleField "QueryHarbor$Answer" "cost") ∈ lw_all := lw_g (lw_at lw_m1 174 rfl) rfl
theorem q259 : (Jvm.Cond.lays "QueryHarbor$Answer" "QueryHarbor$Answer" "attempts" "I") ∈ lw_all := lw_g (lw_at lw_m1 175 rfl) rfl
theorem q260 : (Jvm.Cond.soleField "QueryHarbor$Answer" "attempts") ∈ lw_all := lw_g (lw_at lw_m1 176 rfl) rfl
theorem q261 : (Jvm.Cond.lays "QueryHarbor$Answer" "QueryHarbor$Answer" "shipped" "I") ∈ lw_all := lw_g (lw_at lw_m1 177 rfl) rfl
theorem q262 : (Jvm.Cond.soleField "QueryHarbor$Answer" "shipped") ∈ lw_all := lw_g (lw_at lw_m1 178 rfl) rfl
theorem q263 : (Jvm.Cond.superclass "QueryHarbor$Answer" "java/lang/Object") ∈ lw_all := lw_g (lw_at lw_m1 179 rfl) rfl
theorem q923 : (Jvm.Cond.selects "QueryHarbor$Answer" ({ cls := "java/lang/Object", name := "getClass", desc := "()Ljava/lang/Class;" } : Jvm.MethodName) ({ cls := "java/lang/Object", name := "getClass", desc := "()Ljava/lang/Class;" } : Jvm.MethodName)) ∈ lw_all := lw_g (lw_at lw_m4 119 rfl) rfl
theorem q2343 : (Jvm.Cond.castable "QueryHarbor$Answer" "java/lang/Object") ∈ lw_tbl := lw_at lw_m10 99 rfl
theorem in_X6 : ∀ w ∈ wsX60, w ∈ lw_all := lw_in wsX60 [249, 251, 253, 255, 257, 259, 261] (by decide +kernel) (by decide +kernel)
/-! QueryHarbor$Source -/
set_option maxRecDepth 100000
def RX7 : String := "QueryHarbor$Source"
def TX7 : u_T := fun k => match k with
  | 0 => ("QueryHarbor$Source", "number", "I", true)
  | 1 => ("QueryHarbor$Source", "line", "LQueryHarbor$Line;", true)
  | 2 => ("QueryHarbor$Source", "rows", "Ljava/util/ArrayList;", true)
  | 3 => ("QueryHarbor$Source", "writes", "Ljava/util/ArrayList;", true)
  | 4 => ("QueryHarbor$Source", "added", "I", false)
  | _ => ("QueryHarbor$Source", "size", "I", false)
def tyX7 : Nat → FieldType := fun k => match k with
  | 0 => .int
  | 1 => .object "QueryHarbor$Line"
  | 2 => .object "java/util/ArrayList"
  | 3 => .object "java/util/ArrayList"
  | 4 => .int
  | _ => .int
abbrev wsX70 : List Cond := u_ws RX7 TX7 6
theorem nmX7 : ∀ a, a < 6 → ∀ b, b < 6 → a ≠ b → (TX7 a).2.1 ≠ (TX7 b).2.1 := by decide +kernel
theorem tyX7_ok : ∀ k, k < 6 → parseFieldDescriptor (TX7 k).2.2.1 = some (tyX7 k) := by decide +kernel
abbrev cX7_init : ByteArray := prog_16_method_1_code
def yX7_init : MethodName := ⟨RX7, "<init>", "(ILQueryHarbor$Line;)V"⟩
def dkwX7_init_1 : List UInt8 := [181, 0, 18, 42, 16, 10, 181, 0, 21, 42, 27, 181, 0, 25, 42, 44, 181, 0, 28, 177]
abbrev dktX7_init_1 : List UInt8 := dkwX7_init_1 ++ []
def dkwX7_init_0 : List UInt8 := [42, 183, 0, 3, 42, 187, 0, 9, 89, 183, 0, 11, 181, 0, 12, 42, 187, 0, 9, 89, 183, 0, 11]
abbrev dktX7_init_0 : List UInt8 := dkwX7_init_0 ++ dktX7_init_1
theorem dksX7_init_0 : cX7_init.data.toList.drop 0 = dktX7_init_0 := by decide +kernel
theorem dksX7_init_1 : cX7_init.data.toList.drop 23 = dktX7_init_1 := dk_seg dksX7_init_0 23 rfl rfl
theorem dX7_init_0 : decode cX7_init 0 = .ok (.aload_n 0, 1) := dk_42 (dk_at dksX7_init_0 0 rfl rfl)
theorem dX7_init_1 : decode cX7_init 1 = .ok (.invokespecial 3, 3) := dk_183 0 3 (dk_at dksX7_init_0 1 rfl rfl)
theorem dX7_init_4 : decode cX7_init 4 = .ok (.aload_n 0, 1) := dk_42 (dk_at dksX7_init_0 4 rfl rfl)
theorem dX7_init_5 : decode cX7_init 5 = .ok (.new 9, 3) := dk_187 0 9 (dk_at dksX7_init_0 5 rfl rfl)
theorem dX7_init_8 : decode cX7_init 8 = .ok (.dup, 1) := dk_89 (dk_at dksX7_init_0 8 rfl rfl)
theorem dX7_init_9 : decode cX7_init 9 = .ok (.invokespecial 11, 3) := dk_183 0 11 (dk_at dksX7_init_0 9 rfl rfl)
theorem dX7_init_12 : decode cX7_init 12 = .ok (.putfield 12, 3) := dk_181 0 12 (dk_at dksX7_init_0 12 rfl rfl)
theorem dX7_init_15 : decode cX7_init 15 = .ok (.aload_n 0, 1) := dk_42 (dk_at dksX7_init_0 15 rfl rfl)
theorem dX7_init_16 : decode cX7_init 16 = .ok (.new 9, 3) := dk_187 0 9 (dk_at dksX7_init_0 16 rfl rfl)
theorem dX7_init_19 : decode cX7_init 19 = .ok (.dup, 1) := dk_89 (dk_at dksX7_init_0 19 rfl rfl)
theorem dX7_init_20 : decode cX7_init 20 = .ok (.invokespecial 11, 3) := dk_183 0 11 (dk_at dksX7_init_0 20 rfl rfl)
theorem dX7_init_23 : decode cX7_init 23 = .ok (.putfield 18, 3) := dk_181 0 18 (dk_at dksX7_init_1 0 rfl rfl)
theorem dX7_init_26 : decode cX7_init 26 = .ok (.aload_n 0, 1) := dk_42 (dk_at dksX7_init_1 3 rfl rfl)
theorem dX7_init_27 : decode cX7_init 27 = .ok (.bipush 10, 2) := dk_16 10 (dk_at dksX7_init_1 4 rfl rfl)
theorem dX7_init_29 : decode cX7_init 29 = .ok (.putfield 21, 3) := dk_181 0 21 (dk_at dksX7_init_1 6 rfl rfl)
theorem dX7_init_32 : decode cX7_init 32 = .ok (.aload_n 0, 1) := dk_42 (dk_at dksX7_init_1 9 rfl rfl)
theorem dX7_init_33 : decode cX7_init 33 = .ok (.iload_n 1, 1) := dk_27 (dk_at dksX7_init_1 10 rfl rfl)
theorem dX7_init_34 : decode cX7_init 34 = .ok (.putfield 25, 3) := dk_181 0 25 (dk_at dksX7_init_1 11 rfl rfl)
theorem dX7_init_37 : decode cX7_init 37 = .ok (.aload_n 0, 1) := dk_42 (dk_at dksX7_init_1 14 rfl rfl)
theorem dX7_init_38 : decode cX7_init 38 = .ok (.aload_n 2, 1) := dk_44 (dk_at dksX7_init_1 15 rfl rfl)
theorem dX7_init_39 : decode cX7_init 39 = .ok (.putfield 28, 3) := dk_181 0 28 (dk_at dksX7_init_1 16 rfl rfl)
theorem dX7_init_42 : decode cX7_init 42 = .ok (.return_, 1) := dk_177 (dk_at dksX7_init_1 19 rfl rfl)
abbrev cX7_placeOf : ByteArray := prog_16_method_2_code
def yX7_placeOf : MethodName := ⟨RX7, "placeOf", "(I)I"⟩
def dkwX7_placeOf_1 : List UInt8 := [180, 0, 41, 27, 160, 0, 5, 28, 172, 132, 2, 1, 167, 255, 222, 2, 172]
abbrev dktX7_placeOf_1 : List UInt8 := dkwX7_placeOf_1 ++ []
def dkwX7_placeOf_0 : List UInt8 := [3, 61, 28, 42, 180, 0, 12, 182, 0, 32, 162, 0, 29, 42, 180, 0, 12, 28, 182, 0, 35, 192, 0, 39]
abbrev dktX7_placeOf_0 : List UInt8 := dkwX7_placeOf_0 ++ dktX7_placeOf_1
theorem dksX7_placeOf_0 : cX7_placeOf.data.toList.drop 0 = dktX7_placeOf_0 := by decide +kernel
theorem dksX7_placeOf_1 : cX7_placeOf.data.toList.drop 24 = dktX7_placeOf_1 := dk_seg dksX7_placeOf_0 24 rfl rfl
theorem dX7_placeOf_0 : decode cX7_placeOf 0 = .ok (.iconst 0, 1) := dk_3 (dk_at dksX7_placeOf_0 0 rfl rfl)
theorem dX7_placeOf_1 : decode cX7_placeOf 1 = .ok (.istore_n 2, 1) := dk_61 (dk_at dksX7_placeOf_0 1 rfl rfl)
theorem dX7_placeOf_2 : decode cX7_placeOf 2 = .ok (.iload_n 2, 1) := dk_28 (dk_at dksX7_placeOf_0 2 rfl rfl)
theorem dX7_placeOf_3 : decode cX7_placeOf 3 = .ok (.aload_n 0, 1) := dk_42 (dk_at dksX7_placeOf_0 3 rfl rfl)
theorem dX7_placeOf_4 : decode cX7_placeOf 4 = .ok (.getfield 12, 3) := dk_180 0 12 (dk_at dksX7_placeOf_0 4 rfl rfl)
theorem dX7_placeOf_7 : decode cX7_placeOf 7 = .ok (.invokevirtual 32, 3) := dk_182 0 32 (dk_at dksX7_placeOf_0 7 rfl rfl)
theorem dX7_placeOf_10 : decode cX7_placeOf 10 = .ok (.if_icmp .ge 29, 3) := dk_162 0 29 (dk_at dksX7_placeOf_0 10 rfl rfl)
theorem dX7_placeOf_13 : decode cX7_placeOf 13 = .ok (.aload_n 0, 1) := dk_42 (dk_at dksX7_placeOf_0 13 rfl rfl)
theorem dX7_placeOf_14 : decode cX7_placeOf 14 = .ok (.getfield 12, 3) := dk_180 0 12 (dk_at dksX7_placeOf_0 14 rfl rfl)
theorem dX7_placeOf_17 : decode cX7_placeOf 17 = .ok (.iload_n 2, 1) := dk_28 (dk_at dksX7_placeOf_0 17 rfl rfl)
theorem dX7_placeOf_18 : decode cX7_placeOf 18 = .ok (.invokevirtual 35, 3) := dk_182 0 35 (dk_at dksX7_placeOf_0 18 rfl rfl)
theorem dX7_placeOf_21 : decode cX7_placeOf 21 = .ok (.checkcast 39, 3) := dk_192 0 39 (dk_at dksX7_placeOf_0 21 rfl rfl)
theorem dX7_placeOf_24 : decode cX7_placeOf 24 = .ok (.getfield 41, 3) := dk_180 0 41 (dk_at dksX7_placeOf_1 0 rfl rfl)
theorem dX7_placeOf_27 : decode cX7_placeOf 27 = .ok (.iload_n 1, 1) := dk_27 (dk_at dksX7_placeOf_1 3 rfl rfl)
theorem dX7_placeOf_28 : decode cX7_placeOf 28 = .ok (.if_icmp .ne 5, 3) := dk_160 0 5 (dk_at dksX7_placeOf_1 4 rfl rfl)
theorem dX7_placeOf_31 : decode cX7_placeOf 31 = .ok (.iload_n 2, 1) := dk_28 (dk_at dksX7_placeOf_1 7 rfl rfl)
theorem dX7_placeOf_32 : decode cX7_placeOf 32 = .ok (.ireturn, 1) := dk_172 (dk_at dksX7_placeOf_1 8 rfl rfl)
theorem dX7_placeOf_33 : decode cX7_placeOf 33 = .ok (.iinc 2 1, 3) := dk_132 2 1 (dk_at dksX7_placeOf_1 9 rfl rfl)
theorem dX7_placeOf_36 : decode cX7_placeOf 36 = .ok (.goto (-34), 3) := dk_167 255 222 (dk_at dksX7_placeOf_1 12 rfl rfl)
theorem dX7_placeOf_39 : decode cX7_placeOf 39 = .ok (.iconst (-1), 1) := dk_2 (dk_at dksX7_placeOf_1 15 rfl rfl)
theorem dX7_placeOf_40 : decode cX7_placeOf 40 = .ok (.ireturn, 1) := dk_172 (dk_at dksX7_placeOf_1 16 rfl rfl)
abbrev cX7_lay : ByteArray := prog_16_method_3_code
def yX7_lay : MethodName := ⟨RX7, "lay", "(LQueryHarbor$Row;)V"⟩
def dkwX7_lay_2 : List UInt8 := [182, 0, 44, 177]
abbrev dktX7_lay_2 : List UInt8 := dkwX7_lay_2 ++ []
def dkwX7_lay_1 : List UInt8 := [180, 0, 41, 43, 180, 0, 41, 162, 0, 9, 132, 2, 1, 167, 255, 221, 42, 180, 0, 12, 28, 43]
abbrev dktX7_lay_1 : List UInt8 := dkwX7_lay_1 ++ dktX7_lay_2
def dkwX7_lay_0 : List UInt8 := [3, 61, 28, 42, 180, 0, 12, 182, 0, 32, 162, 0, 30, 42, 180, 0, 12, 28, 182, 0, 35, 192, 0, 39]
abbrev dktX7_lay_0 : List UInt8 := dkwX7_lay_0 ++ dktX7_lay_1
theorem dksX7_lay_0 : cX7_lay.data.toList.drop 0 = dktX7_lay_0 := by decide +kernel
theorem dksX7_lay_1 : cX7_lay.data.toList.drop 24 = dktX7_lay_1 := dk_seg dksX7_lay_0 24 rfl rfl
theorem dksX7_lay_2 : cX7_lay.data.toList.drop 46 = dktX7_lay_2 := dk_seg dksX7_lay_1 22 rfl rfl
theorem dX7_lay_0 : decode cX7_lay 0 = .ok (.iconst 0, 1) := dk_3 (dk_at dksX7_lay_0 0 rfl rfl)
theorem dX7_lay_1 : decode cX7_lay 1 = .ok (.istore_n 2, 1) := dk_61 (dk_at dksX7_lay_0 1 rfl rfl)
theorem dX7_lay_2 : decode cX7_lay 2 = .ok (.iload_n 2, 1) := dk_28 (dk_at dksX7_lay_0 2 rfl rfl)
theorem dX7_lay_3 : decode cX7_lay 3 = .ok (.aload_n 0, 1) := dk_42 (dk_at dksX7_lay_0 3 rfl rfl)
theorem dX7_lay_4 : decode cX7_lay 4 = .ok (.getfield 12, 3) := dk_180 0 12 (dk_at dksX7_lay_0 4 rfl rfl)
theorem dX7_lay_7 : decode cX7_lay 7 = .ok (.invokevirtual 32, 3) := dk_182 0 32 (dk_at dksX7_lay_0 7 rfl rfl)
theorem dX7_lay_10 : decode cX7_lay 10 = .ok (.if_icmp .ge 30, 3) := dk_162 0 30 (dk_at dksX7_lay_0 10 rfl rfl)
theorem dX7_lay_13 : decode cX7_lay 13 = .ok (.aload_n 0, 1) := dk_42 (dk_at dksX7_lay_0 13 rfl rfl)
theorem dX7_lay_14 : decode cX7_lay 14 = .ok (.getfield 12, 3) := dk_180 0 12 (dk_at dksX7_lay_0 14 rfl rfl)
theorem dX7_lay_17 : decode cX7_lay 17 = .ok (.iload_n 2, 1) := dk_28 (dk_at dksX7_lay_0 17 rfl rfl)
theorem dX7_lay_18 : decode cX7_lay 18 = .ok (.invokevirtual 35, 3) := dk_182 0 35 (dk_at dksX7_lay_0 18 rfl rfl)
theorem dX7_lay_21 : decode cX7_lay 21 = .ok (.checkcast 39, 3) := dk_192 0 39 (dk_at dksX7_lay_0 21 rfl rfl)
theorem dX7_lay_24 : decode cX7_lay 24 = .ok (.getfield 41, 3) := dk_180 0 41 (dk_at dksX7_lay_1 0 rfl rfl)
theorem dX7_lay_27 : decode cX7_lay 27 = .ok (.aload_n 1, 1) := dk_43 (dk_at dksX7_lay_1 3 rfl rfl)
theorem dX7_lay_28 : decode cX7_lay 28 = .ok (.getfield 41, 3) := dk_180 0 41 (dk_at dksX7_lay_1 4 rfl rfl)
theorem dX7_lay_31 : decode cX7_lay 31 = .ok (.if_icmp .ge 9, 3) := dk_162 0 9 (dk_at dksX7_lay_1 7 rfl rfl)
theorem dX7_lay_34 : decode cX7_lay 34 = .ok (.iinc 2 1, 3) := dk_132 2 1 (dk_at dksX7_lay_1 10 rfl rfl)
theorem dX7_lay_37 : decode cX7_lay 37 = .ok (.goto (-35), 3) := dk_167 255 221 (dk_at dksX7_lay_1 13 rfl rfl)
theorem dX7_lay_40 : decode cX7_lay 40 = .ok (.aload_n 0, 1) := dk_42 (dk_at dksX7_lay_1 16 rfl rfl)
theorem dX7_lay_41 : decode cX7_lay 41 = .ok (.getfield 12, 3) := dk_180 0 12 (dk_at dksX7_lay_1 17 rfl rfl)
theorem dX7_lay_44 : decode cX7_lay 44 = .ok (.iload_n 2, 1) := dk_28 (dk_at dksX7_lay_1 20 rfl rfl)
theorem dX7_lay_45 : decode cX7_lay 45 = .ok (.aload_n 1, 1) := dk_43 (dk_at dksX7_lay_1 21 rfl rfl)
theorem dX7_lay_46 : decode cX7_lay 46 = .ok (.invokevirtual 44, 3) := dk_182 0 44 (dk_at dksX7_lay_2 0 rfl rfl)
theorem dX7_lay_49 : decode cX7_lay 49 = .ok (.return_, 1) := dk_177 (dk_at dksX7_lay_2 3 rfl rfl)
abbrev cX7_since : ByteArray := prog_16_method_4_code
def yX7_since : MethodName := ⟨RX7, "since", "(I)I"⟩
def dkwX7_since_2 : List UInt8 := [167, 0, 4, 28, 61, 132, 3, 1, 167, 255, 205, 28, 172]
abbrev dktX7_since_2 : List UInt8 := dkwX7_since_2 ++ []
def dkwX7_since_1 : List UInt8 := [192, 0, 48, 182, 0, 50, 27, 163, 0, 20, 42, 180, 0, 18, 29, 182, 0, 35, 192, 0, 48, 182, 0, 50]
abbrev dktX7_since_1 : List UInt8 := dkwX7_since_1 ++ dktX7_since_2
def dkwX7_since_0 : List UInt8 := [3, 61, 3, 62, 29, 42, 180, 0, 18, 182, 0, 32, 162, 0, 46, 42, 180, 0, 18, 29, 182, 0, 35]
abbrev dktX7_since_0 : List UInt8 := dkwX7_since_0 ++ dktX7_since_1
theorem dksX7_since_0 : cX7_since.data.toList.drop 0 = dktX7_since_0 := by decide +kernel
theorem dksX7_since_1 : cX7_since.data.toList.drop 23 = dktX7_since_1 := dk_seg dksX7_since_0 23 rfl rfl
theorem dksX7_since_2 : cX7_since.data.toList.drop 47 = dktX7_since_2 := dk_seg dksX7_since_1 24 rfl rfl
theorem dX7_since_0 : decode cX7_since 0 = .ok (.iconst 0, 1) := dk_3 (dk_at dksX7_since_0 0 rfl rfl)
theorem dX7_since_1 : decode cX7_since 1 = .ok (.istore_n 2, 1) := dk_61 (dk_at dksX7_since_0 1 rfl rfl)
theorem dX7_since_2 : decode cX7_since 2 = .ok (.iconst 0, 1) := dk_3 (dk_at dksX7_since_0 2 rfl rfl)
theorem dX7_since_3 : decode cX7_since 3 = .ok (.istore_n 3, 1) := dk_62 (dk_at dksX7_since_0 3 rfl rfl)
theorem dX7_since_4 : decode cX7_since 4 = .ok (.iload_n 3, 1) := dk_29 (dk_at dksX7_since_0 4 rfl rfl)
theorem dX7_since_5 : decode cX7_since 5 = .ok (.aload_n 0, 1) := dk_42 (dk_at dksX7_since_0 5 rfl rfl)
theorem dX7_since_6 : decode cX7_since 6 = .ok (.getfield 18, 3) := dk_180 0 18 (dk_at dksX7_since_0 6 rfl rfl)
theorem dX7_since_9 : decode cX7_since 9 = .ok (.invokevirtual 32, 3) := dk_182 0 32 (dk_at dksX7_since_0 9 rfl rfl)
theorem dX7_since_12 : decode cX7_since 12 = .ok (.if_icmp .ge 46, 3) := dk_162 0 46 (dk_at dksX7_since_0 12 rfl rfl)
theorem dX7_since_15 : decode cX7_since 15 = .ok (.aload_n 0, 1) := dk_42 (dk_at dksX7_since_0 15 rfl rfl)
theorem dX7_since_16 : decode cX7_since 16 = .ok (.getfield 18, 3) := dk_180 0 18 (dk_at dksX7_since_0 16 rfl rfl)
theorem dX7_since_19 : decode cX7_since 19 = .ok (.iload_n 3, 1) := dk_29 (dk_at dksX7_since_0 19 rfl rfl)
theorem dX7_since_20 : decode cX7_since 20 = .ok (.invokevirtual 35, 3) := dk_182 0 35 (dk_at dksX7_since_0 20 rfl rfl)
theorem dX7_since_23 : decode cX7_since 23 = .ok (.checkcast 48, 3) := dk_192 0 48 (dk_at dksX7_since_1 0 rfl rfl)
theorem dX7_since_26 : decode cX7_since 26 = .ok (.invokevirtual 50, 3) := dk_182 0 50 (dk_at dksX7_since_1 3 rfl rfl)
theorem dX7_since_29 : decode cX7_since 29 = .ok (.iload_n 1, 1) := dk_27 (dk_at dksX7_since_1 6 rfl rfl)
theorem dX7_since_30 : decode cX7_since 30 = .ok (.if_icmp .gt 20, 3) := dk_163 0 20 (dk_at dksX7_since_1 7 rfl rfl)
theorem dX7_since_33 : decode cX7_since 33 = .ok (.aload_n 0, 1) := dk_42 (dk_at dksX7_since_1 10 rfl rfl)
theorem dX7_since_34 : decode cX7_since 34 = .ok (.getfield 18, 3) := dk_180 0 18 (dk_at dksX7_since_1 11 rfl rfl)
theorem dX7_since_37 : decode cX7_since 37 = .ok (.iload_n 3, 1) := dk_29 (dk_at dksX7_since_1 14 rfl rfl)
theorem dX7_since_38 : decode cX7_since 38 = .ok (.invokevirtual 35, 3) := dk_182 0 35 (dk_at dksX7_since_1 15 rfl rfl)
theorem dX7_since_41 : decode cX7_since 41 = .ok (.checkcast 48, 3) := dk_192 0 48 (dk_at dksX7_since_1 18 rfl rfl)
theorem dX7_since_44 : decode cX7_since 44 = .ok (.invokevirtual 50, 3) := dk_182 0 50 (dk_at dksX7_since_1 21 rfl rfl)
theorem dX7_since_47 : decode cX7_since 47 = .ok (.goto 4, 3) := dk_167 0 4 (dk_at dksX7_since_2 0 rfl rfl)
theorem dX7_since_50 : decode cX7_since 50 = .ok (.iload_n 2, 1) := dk_28 (dk_at dksX7_since_2 3 rfl rfl)
theorem dX7_since_51 : decode cX7_since 51 = .ok (.istore_n 2, 1) := dk_61 (dk_at dksX7_since_2 4 rfl rfl)
theorem dX7_since_52 : decode cX7_since 52 = .ok (.iinc 3 1, 3) := dk_132 3 1 (dk_at dksX7_since_2 5 rfl rfl)
theorem dX7_since_55 : decode cX7_since 55 = .ok (.goto (-51), 3) := dk_167 255 205 (dk_at dksX7_since_2 8 rfl rfl)
theorem dX7_since_58 : decode cX7_since 58 = .ok (.iload_n 2, 1) := dk_28 (dk_at dksX7_since_2 11 rfl rfl)
theorem dX7_since_59 : decode cX7_since 59 = .ok (.ireturn, 1) := dk_172 (dk_at dksX7_since_2 12 rfl rfl)
abbrev cX7_until : ByteArray := prog_16_method_5_code
def yX7_until : MethodName := ⟨RX7, "until", "(II)I"⟩
def dkwX7_until_2 : List UInt8 := [192, 0, 48, 182, 0, 50, 4, 100, 167, 0, 4, 29, 62, 132, 4, 255, 167, 255, 207, 29, 172]
abbrev dktX7_until_2 : List UInt8 := dkwX7_until_2 ++ []
def dkwX7_until_1 : List UInt8 := [182, 0, 35, 192, 0, 48, 182, 0, 50, 27, 164, 0, 23, 42, 180, 0, 18, 21, 4, 182, 0, 35]
abbrev dktX7_until_1 : List UInt8 := dkwX7_until_1 ++ dktX7_until_2
def dkwX7_until_0 : List UInt8 := [28, 62, 42, 180, 0, 18, 182, 0, 32, 4, 100, 54, 4, 21, 4, 155, 0, 50, 42, 180, 0, 18, 21, 4]
abbrev dktX7_until_0 : List UInt8 := dkwX7_until_0 ++ dktX7_until_1
theorem dksX7_until_0 : cX7_until.data.toList.drop 0 = dktX7_until_0 := by decide +kernel
theorem dksX7_until_1 : cX7_until.data.toList.drop 24 = dktX7_until_1 := dk_seg dksX7_until_0 24 rfl rfl
theorem dksX7_until_2 : cX7_until.data.toList.drop 46 = dktX7_until_2 := dk_seg dksX7_until_1 22 rfl rfl
theorem dX7_until_0 : decode cX7_until 0 = .ok (.iload_n 2, 1) := dk_28 (dk_at dksX7_until_0 0 rfl rfl)
theorem dX7_until_1 : decode cX7_until 1 = .ok (.istore_n 3, 1) := dk_62 (dk_at dksX7_until_0 1 rfl rfl)
theorem dX7_until_2 : decode cX7_until 2 = .ok (.aload_n 0, 1) := dk_42 (dk_at dksX7_until_0 2 rfl rfl)
theorem dX7_until_3 : decode cX7_until 3 = .ok (.getfield 18, 3) := dk_180 0 18 (dk_at dksX7_until_0 3 rfl rfl)
theorem dX7_until_6 : decode cX7_until 6 = .ok (.invokevirtual 32, 3) := dk_182 0 32 (dk_at dksX7_until_0 6 rfl rfl)
theorem dX7_until_9 : decode cX7_until 9 = .ok (.iconst 1, 1) := dk_4 (dk_at dksX7_until_0 9 rfl rfl)
theorem dX7_until_10 : decode cX7_until 10 = .ok (.isub, 1) := dk_100 (dk_at dksX7_until_0 10 rfl rfl)
theorem dX7_until_11 : decode cX7_until 11 = .ok (.istore 4, 2) := dk_54 4 (dk_at dksX7_until_0 11 rfl rfl)
theorem dX7_until_13 : decode cX7_until 13 = .ok (.iload 4, 2) := dk_21 4 (dk_at dksX7_until_0 13 rfl rfl)
theorem dX7_until_15 : decode cX7_until 15 = .ok (.ifCond .lt 50, 3) := dk_155 0 50 (dk_at dksX7_until_0 15 rfl rfl)
theorem dX7_until_18 : decode cX7_until 18 = .ok (.aload_n 0, 1) := dk_42 (dk_at dksX7_until_0 18 rfl rfl)
theorem dX7_until_19 : decode cX7_until 19 = .ok (.getfield 18, 3) := dk_180 0 18 (dk_at dksX7_until_0 19 rfl rfl)
theorem dX7_until_22 : decode cX7_until 22 = .ok (.iload 4, 2) := dk_21 4 (dk_at dksX7_until_0 22 rfl rfl)
theorem dX7_until_24 : decode cX7_until 24 = .ok (.invokevirtual 35, 3) := dk_182 0 35 (dk_at dksX7_until_1 0 rfl rfl)
theorem dX7_until_27 : decode cX7_until 27 = .ok (.checkcast 48, 3) := dk_192 0 48 (dk_at dksX7_until_1 3 rfl rfl)
theorem dX7_until_30 : decode cX7_until 30 = .ok (.invokevirtual 50, 3) := dk_182 0 50 (dk_at dksX7_until_1 6 rfl rfl)
theorem dX7_until_33 : decode cX7_until 33 = .ok (.iload_n 1, 1) := dk_27 (dk_at dksX7_until_1 9 rfl rfl)
theorem dX7_until_34 : decode cX7_until 34 = .ok (.if_icmp .le 23, 3) := dk_164 0 23 (dk_at dksX7_until_1 10 rfl rfl)
theorem dX7_until_37 : decode cX7_until 37 = .ok (.aload_n 0, 1) := dk_42 (dk_at dksX7_until_1 13 rfl rfl)
theorem dX7_until_38 : decode cX7_until 38 = .ok (.getfield 18, 3) := dk_180 0 18 (dk_at dksX7_until_1 14 rfl rfl)
theorem dX7_until_41 : decode cX7_until 41 = .ok (.iload 4, 2) := dk_21 4 (dk_at dksX7_until_1 17 rfl rfl)
theorem dX7_until_43 : decode cX7_until 43 = .ok (.invokevirtual 35, 3) := dk_182 0 35 (dk_at dksX7_until_1 19 rfl rfl)
theorem dX7_until_46 : decode cX7_until 46 = .ok (.checkcast 48, 3) := dk_192 0 48 (dk_at dksX7_until_2 0 rfl rfl)
theorem dX7_until_49 : decode cX7_until 49 = .ok (.invokevirtual 50, 3) := dk_182 0 50 (dk_at dksX7_until_2 3 rfl rfl)
theorem dX7_until_52 : decode cX7_until 52 = .ok (.iconst 1, 1) := dk_4 (dk_at dksX7_until_2 6 rfl rfl)
theorem dX7_until_53 : decode cX7_until 53 = .ok (.isub, 1) := dk_100 (dk_at dksX7_until_2 7 rfl rfl)
theorem dX7_until_54 : decode cX7_until 54 = .ok (.goto 4, 3) := dk_167 0 4 (dk_at dksX7_until_2 8 rfl rfl)
theorem dX7_until_57 : decode cX7_until 57 = .ok (.iload_n 3, 1) := dk_29 (dk_at dksX7_until_2 11 rfl rfl)
theorem dX7_until_58 : decode cX7_until 58 = .ok (.istore_n 3, 1) := dk_62 (dk_at dksX7_until_2 12 rfl rfl)
theorem dX7_until_59 : decode cX7_until 59 = .ok (.iinc 4 (-1), 3) := dk_132 4 255 (dk_at dksX7_until_2 13 rfl rfl)
theorem dX7_until_62 : decode cX7_until 62 = .ok (.goto (-49), 3) := dk_167 255 207 (dk_at dksX7_until_2 16 rfl rfl)
theorem dX7_until_65 : decode cX7_until 65 = .ok (.iload_n 3, 1) := dk_29 (dk_at dksX7_until_2 19 rfl rfl)
theorem dX7_until_66 : decode cX7_until 66 = .ok (.ireturn, 1) := dk_172 (dk_at dksX7_until_2 20 rfl rfl)
theorem q94 : (Jvm.Cond.initialized "QueryHarbor$Source") ∈ lw_all := lw_g (lw_at lw_m1 10 rfl) rfl
theorem q264 : (Jvm.Cond.instantiable "QueryHarbor$Source" (6 : Nat)) ∈ lw_all := lw_g (lw_at lw_m1 180 rfl) rfl
theorem q266 : (Jvm.Cond.instanceMethod ({ cls := "QueryHarbor$Source", name := "<init>", desc := "(ILQueryHarbor$Line;)V" } : Jvm.MethodName)) ∈ lw_all := lw_g (lw_at lw_m1 182 rfl) rfl
theorem q267 : (Jvm.Cond.code ({ cls := "QueryHarbor$Source", name := "<init>", desc := "(ILQueryHarbor$Line;)V" } : Jvm.MethodName) prog_16_method_1_code (3 : Nat) (Option.none : Option Jvm.ClassFile.FieldType)) ∈ lw_all := lw_g (lw_at lw_m1 183 rfl) rfl
theorem q268 : (Jvm.Cond.methodLink "QueryHarbor$Source" (3 : Nat) ({ cls := "java/lang/Object", name := "<init>", desc := "()V" } : Jvm.MethodName)) ∈ lw_all := lw_g (lw_at lw_m1 184 rfl) rfl
theorem q269 : (Jvm.Cond.classLink "QueryHarbor$Source" (9 : Nat) "java/util/ArrayList") ∈ lw_all := lw_g (lw_at lw_m1 185 rfl) rfl
theorem q270 : (Jvm.Cond.methodLink "QueryHarbor$Source" (11 : Nat) ({ cls := "java/util/ArrayList", name := "<init>", desc := "()V" } : Jvm.MethodName)) ∈ lw_all := lw_g (lw_at lw_m1 186 rfl) rfl
theorem q271 : (Jvm.Cond.fieldLink "QueryHarbor$Source" (25 : Nat) "QueryHarbor$Source" "number" "I") ∈ lw_all := lw_g (lw_at lw_m1 187 rfl) rfl
theorem q273 : (Jvm.Cond.fieldLink "QueryHarbor$Source" (28 : Nat) "QueryHarbor$Source" "line" "LQueryHarbor$Line;") ∈ lw_all := lw_g (lw_at lw_m1 189 rfl) rfl
theorem q276 : (Jvm.Cond.fieldLink "QueryHarbor$Source" (12 : Nat) "QueryHarbor$Source" "rows" "Ljava/util/ArrayList;") ∈ lw_all := lw_g (lw_at lw_m1 192 rfl) rfl
theorem q279 : (Jvm.Cond.fieldLink "QueryHarbor$Source" (18 : Nat) "QueryHarbor$Source" "writes" "Ljava/util/ArrayList;") ∈ lw_all := lw_g (lw_at lw_m1 195 rfl) rfl
theorem q282 : (Jvm.Cond.fieldLink "QueryHarbor$Source" (21 : Nat) "QueryHarbor$Source" "size" "I") ∈ lw_all := lw_g (lw_at lw_m1 198 rfl) rfl
theorem q285 : (Jvm.Cond.laysFinal "QueryHarbor$Source" "QueryHarbor$Source" "number" "I") ∈ lw_all := lw_g (lw_at lw_m1 201 rfl) rfl
theorem q286 : (Jvm.Cond.soleField "QueryHarbor$Source" "number") ∈ lw_all := lw_g (lw_at lw_m1 202 rfl) rfl
theorem q287 : (Jvm.Cond.laysFinal "QueryHarbor$Source" "QueryHarbor$Source" "line" "LQueryHarbor$Line;") ∈ lw_all := lw_g (lw_at lw_m1 203 rfl) rfl
theorem q288 : (Jvm.Cond.soleField "QueryHarbor$Source" "line") ∈ lw_all := lw_g (lw_at lw_m1 204 rfl) rfl
theorem q289 : (Jvm.Cond.laysFinal "QueryHarbor$Source" "QueryHarbor$Source" "rows" "Ljava/util/ArrayList;") ∈ lw_all := lw_g (lw_at lw_m1 205 rfl) rfl
theorem q290 : (Jvm.Cond.soleField "QueryHarbor$Source" "rows") ∈ lw_all := lw_g (lw_at lw_m1 206 rfl) rfl
theorem q291 : (Jvm.Cond.laysFinal "QueryHarbor$Source" "QueryHarbor$Source" "writes" "Ljava/util/ArrayList;") ∈ lw_all := lw_g (lw_at lw_m1 207 rfl) rfl
theorem q292 : (Jvm.Cond.soleField "QueryHarbor$Source" "writes") ∈ lw_all := lw_g (lw_at lw_m1 208 rfl) rfl
theorem q293 : (Jvm.Cond.lays "QueryHarbor$Source" "QueryHarbor$Source" "added" "I") ∈ lw_all := lw_g (lw_at lw_m1 209 rfl) rfl
theorem q294 : (Jvm.Cond.soleField "QueryHarbor$Source" "added") ∈ lw_all := lw_g (lw_at lw_m1 210 rfl) rfl
theorem q295 : (Jvm.Cond.lays "QueryHarbor$Source" "QueryHarbor$Source" "size" "I") ∈ lw_all := lw_g (lw_at lw_m1 211 rfl) rfl
theorem q296 : (Jvm.Cond.soleField "QueryHarbor$Source" "size") ∈ lw_all := lw_g (lw_at lw_m1 212 rfl) rfl
theorem q297 : (Jvm.Cond.superclass "QueryHarbor$Source" "java/lang/Object") ∈ lw_all := lw_g (lw_at lw_m1 213 rfl) rfl
theorem q575 : (Jvm.Cond.instanceMethod ({ cls := "QueryHarbor$Source", name := "placeOf", desc := "(I)I" } : Jvm.MethodName)) ∈ lw_all := lw_g (lw_at lw_m3 11 rfl) rfl
theorem q576 : (Jvm.Cond.selects "QueryHarbor$Source" ({ cls := "QueryHarbor$Source", name := "placeOf", desc := "(I)I" } : Jvm.MethodName) ({ cls := "QueryHarbor$Source", name := "placeOf", desc := "(I)I" } : Jvm.MethodName)) ∈ lw_all := lw_g (lw_at lw_m3 12 rfl) rfl
theorem q577 : (Jvm.Cond.code ({ cls := "QueryHarbor$Source", name := "placeOf", desc := "(I)I" } : Jvm.MethodName) prog_16_method_2_code (3 : Nat) (Option.some Jvm.ClassFile.FieldType.int)) ∈ lw_all := lw_g (lw_at lw_m3 13 rfl) rfl
theorem q578 : (Jvm.Cond.methodLink "QueryHarbor$Source" (32 : Nat) ({ cls := "java/util/ArrayList", name := "size", desc := "()I" } : Jvm.MethodName)) ∈ lw_all := lw_g (lw_at lw_m3 14 rfl) rfl
theorem q579 : (Jvm.Cond.methodLink "QueryHarbor$Source" (35 : Nat) ({ cls := "java/util/ArrayList", name := "get", desc := "(I)Ljava/lang/Object;" } : Jvm.MethodName)) ∈ lw_all := lw_g (lw_at lw_m3 15 rfl) rfl
theorem q593 : (Jvm.Cond.classLink "QueryHarbor$Source" (39 : Nat) "QueryHarbor$Row") ∈ lw_all := lw_g (lw_at lw_m3 29 rfl) rfl
theorem q641 : (Jvm.Cond.fieldLink "QueryHarbor$Source" (41 : Nat) "QueryHarbor$Row" "mark" "I") ∈ lw_all := lw_g (lw_at lw_m3 77 rfl) rfl
theorem q653 : (Jvm.Cond.instanceMethod ({ cls := "QueryHarbor$Source", name := "lay", desc := "(LQueryHarbor$Row;)V" } : Jvm.MethodName)) ∈ lw_all := lw_g (lw_at lw_m3 89 rfl) rfl
theorem q654 : (Jvm.Cond.selects "QueryHarbor$Source" ({ cls := "QueryHarbor$Source", name := "lay", desc := "(LQueryHarbor$Row;)V" } : Jvm.MethodName) ({ cls := "QueryHarbor$Source", name := "lay", desc := "(LQueryHarbor$Row;)V" } : Jvm.MethodName)) ∈ lw_all := lw_g (lw_at lw_m3 90 rfl) rfl
theorem q655 : (Jvm.Cond.code ({ cls := "QueryHarbor$Source", name := "lay", desc := "(LQueryHarbor$Row;)V" } : Jvm.MethodName) prog_16_method_3_code (3 : Nat) (Option.none : Option Jvm.ClassFile.FieldType)) ∈ lw_all := lw_g (lw_at lw_m3 91 rfl) rfl
theorem q656 : (Jvm.Cond.methodLink "QueryHarbor$Source" (44 : Nat) ({ cls := "java/util/ArrayList", name := "add", desc := "(ILjava/lang/Object;)V" } : Jvm.MethodName)) ∈ lw_all := lw_g (lw_at lw_m3 92 rfl) rfl
theorem q937 : (Jvm.Cond.selects "QueryHarbor$Source" ({ cls := "java/lang/Object", name := "getClass", desc := "()Ljava/lang/Class;" } : Jvm.MethodName) ({ cls := "java/lang/Object", name := "getClass", desc := "()Ljava/lang/Class;" } : Jvm.MethodName)) ∈ lw_all := lw_g (lw_at lw_m4 133 rfl) rfl
theorem q1513 : (Jvm.Cond.instanceMethod ({ cls := "QueryHarbor$Source", name := "since", desc := "(I)I" } : Jvm.MethodName)) ∈ lw_all := lw_g (lw_at lw_m6 229 rfl) rfl
theorem q1514 : (Jvm.Cond.selects "QueryHarbor$Source" ({ cls := "QueryHarbor$Source", name := "since", desc := "(I)I" } : Jvm.MethodName) ({ cls := "QueryHarbor$Source", name := "since", desc := "(I)I" } : Jvm.MethodName)) ∈ lw_all := lw_g (lw_at lw_m6 230 rfl) rfl
theorem q1515 : (Jvm.Cond.code ({ cls := "QueryHarbor$Source", name := "since", desc := "(I)I" } : Jvm.MethodName) prog_16_method_4_code (4 : Nat) (Option.some Jvm.ClassFile.FieldType.int)) ∈ lw_all := lw_g (lw_at lw_m6 231 rfl) rfl
theorem q1516 : (Jvm.Cond.classLink "QueryHarbor$Source" (48 : Nat) "java/lang/Integer") ∈ lw_all := lw_g (lw_at lw_m6 232 rfl) rfl
theorem q1517 : (Jvm.Cond.methodLink "QueryHarbor$Source" (50 : Nat) ({ cls := "java/lang/Integer", name := "intValue", desc := "()I" } : Jvm.MethodName)) ∈ lw_all := lw_g (lw_at lw_m6 233 rfl) rfl
theorem q1520 : (Jvm.Cond.instanceMethod ({ cls := "QueryHarbor$Source", name := "until", desc := "(II)I" } : Jvm.MethodName)) ∈ lw_all := lw_g (lw_at lw_m6 236 rfl) rfl
theorem q1521 : (Jvm.Cond.selects "QueryHarbor$Source" ({ cls := "QueryHarbor$Source", name := "until", desc := "(II)I" } : Jvm.MethodName) ({ cls := "QueryHarbor$Source", name := "until", desc := "(II)I" } : Jvm.MethodName)) ∈ lw_all := lw_g (lw_at lw_m6 237 rfl) rfl
theorem q1522 : (Jvm.Cond.code ({ cls := "QueryHarbor$Source", name := "until", desc := "(II)I" } : Jvm.MethodName) prog_16_method_5_code (5 : Nat) (Option.some Jvm.ClassFile.FieldType.int)) ∈ lw_all := lw_g (lw_at lw_m6 238 rfl) rfl
theorem q2335 : (Jvm.Cond.castable "QueryHarbor$Source" "java/lang/Object") ∈ lw_tbl := lw_at lw_m10 91 rfl
theorem in_X7 : ∀ w ∈ wsX70, w ∈ lw_all := lw_in wsX70 [285, 287, 289, 291, 293, 295] (by decide +kernel) (by decide +kernel)
/-! QueryHarbor$Row -/
set_option maxRecDepth 100000
def RX9 : String := "QueryHarbor$Row"
def TX9 : u_T := fun k => match k with
  | 0 => ("QueryHarbor$Row", "mark", "I", true)
  | _ => ("QueryHarbor$Row", "cells", "[I", true)
def tyX9 : Nat → FieldType := fun k => match k with
  | 0 => .int
  | _ => .array .int
abbrev wsX90 : List Cond := u_ws RX9 TX9 2
theorem nmX9 : ∀ a, a < 2 → ∀ b, b < 2 → a ≠ b → (TX9 a).2.1 ≠ (TX9 b).2.1 := by decide +kernel
theorem tyX9_ok : ∀ k, k < 2 → parseFieldDescriptor (TX9 k).2.2.1 = some (tyX9 k) := by decide +kernel
abbrev cX9_init : ByteArray := prog_14_method_1_code
def yX9_init : MethodName := ⟨RX9, "<init>", "(I[I)V"⟩
def dkwX9_init_0 : List UInt8 := [42, 183, 0, 3, 42, 27, 181, 0, 9, 42, 44, 181, 0, 15, 177]
abbrev dktX9_init_0 : List UInt8 := dkwX9_init_0 ++ []
theorem dksX9_init_0 : cX9_init.data.toList.drop 0 = dktX9_init_0 := by decide +kernel
theorem dX9_init_0 : decode cX9_init 0 = .ok (.aload_n 0, 1) := dk_42 (dk_at dksX9_init_0 0 rfl rfl)
theorem dX9_init_1 : decode cX9_init 1 = .ok (.invokespecial 3, 3) := dk_183 0 3 (dk_at dksX9_init_0 1 rfl rfl)
theorem dX9_init_4 : decode cX9_init 4 = .ok (.aload_n 0, 1) := dk_42 (dk_at dksX9_init_0 4 rfl rfl)
theorem dX9_init_5 : decode cX9_init 5 = .ok (.iload_n 1, 1) := dk_27 (dk_at dksX9_init_0 5 rfl rfl)
theorem dX9_init_6 : decode cX9_init 6 = .ok (.putfield 9, 3) := dk_181 0 9 (dk_at dksX9_init_0 6 rfl rfl)
theorem dX9_init_9 : decode cX9_init 9 = .ok (.aload_n 0, 1) := dk_42 (dk_at dksX9_init_0 9 rfl rfl)
theorem dX9_init_10 : decode cX9_init 10 = .ok (.aload_n 2, 1) := dk_44 (dk_at dksX9_init_0 10 rfl rfl)
theorem dX9_init_11 : decode cX9_init 11 = .ok (.putfield 15, 3) := dk_181 0 15 (dk_at dksX9_init_0 11 rfl rfl)
theorem dX9_init_14 : decode cX9_init 14 = .ok (.return_, 1) := dk_177 (dk_at dksX9_init_0 14 rfl rfl)
abbrev cX9_with : ByteArray := prog_14_method_2_code
def yX9_with : MethodName := ⟨RX9, "with", "(II)LQueryHarbor$Row;"⟩
def dkwX9_with_1 : List UInt8 := [180, 0, 9, 45, 183, 0, 25, 176]
abbrev dktX9_with_1 : List UInt8 := dkwX9_with_1 ++ []
def dkwX9_with_0 : List UInt8 := [7, 188, 10, 78, 42, 180, 0, 15, 3, 45, 3, 7, 184, 0, 19, 45, 27, 28, 79, 187, 0, 10, 89, 42]
abbrev dktX9_with_0 : List UInt8 := dkwX9_with_0 ++ dktX9_with_1
theorem dksX9_with_0 : cX9_with.data.toList.drop 0 = dktX9_with_0 := by decide +kernel
theorem dksX9_with_1 : cX9_with.data.toList.drop 24 = dktX9_with_1 := dk_seg dksX9_with_0 24 rfl rfl
theorem dX9_with_0 : decode cX9_with 0 = .ok (.iconst 4, 1) := dk_7 (dk_at dksX9_with_0 0 rfl rfl)
theorem dX9_with_1 : decode cX9_with 1 = .ok (.newarray .int, 2) := dk_188_10 (dk_at dksX9_with_0 1 rfl rfl)
theorem dX9_with_3 : decode cX9_with 3 = .ok (.astore_n 3, 1) := dk_78 (dk_at dksX9_with_0 3 rfl rfl)
theorem dX9_with_4 : decode cX9_with 4 = .ok (.aload_n 0, 1) := dk_42 (dk_at dksX9_with_0 4 rfl rfl)
theorem dX9_with_5 : decode cX9_with 5 = .ok (.getfield 15, 3) := dk_180 0 15 (dk_at dksX9_with_0 5 rfl rfl)
theorem dX9_with_8 : decode cX9_with 8 = .ok (.iconst 0, 1) := dk_3 (dk_at dksX9_with_0 8 rfl rfl)
theorem dX9_with_9 : decode cX9_with 9 = .ok (.aload_n 3, 1) := dk_45 (dk_at dksX9_with_0 9 rfl rfl)
theorem dX9_with_10 : decode cX9_with 10 = .ok (.iconst 0, 1) := dk_3 (dk_at dksX9_with_0 10 rfl rfl)
theorem dX9_with_11 : decode cX9_with 11 = .ok (.iconst 4, 1) := dk_7 (dk_at dksX9_with_0 11 rfl rfl)
theorem dX9_with_12 : decode cX9_with 12 = .ok (.invokestatic 19, 3) := dk_184 0 19 (dk_at dksX9_with_0 12 rfl rfl)
theorem dX9_with_15 : decode cX9_with 15 = .ok (.aload_n 3, 1) := dk_45 (dk_at dksX9_with_0 15 rfl rfl)
theorem dX9_with_16 : decode cX9_with 16 = .ok (.iload_n 1, 1) := dk_27 (dk_at dksX9_with_0 16 rfl rfl)
theorem dX9_with_17 : decode cX9_with 17 = .ok (.iload_n 2, 1) := dk_28 (dk_at dksX9_with_0 17 rfl rfl)
theorem dX9_with_18 : decode cX9_with 18 = .ok (.iastore, 1) := dk_79 (dk_at dksX9_with_0 18 rfl rfl)
theorem dX9_with_19 : decode cX9_with 19 = .ok (.new 10, 3) := dk_187 0 10 (dk_at dksX9_with_0 19 rfl rfl)
theorem dX9_with_22 : decode cX9_with 22 = .ok (.dup, 1) := dk_89 (dk_at dksX9_with_0 22 rfl rfl)
theorem dX9_with_23 : decode cX9_with 23 = .ok (.aload_n 0, 1) := dk_42 (dk_at dksX9_with_0 23 rfl rfl)
theorem dX9_with_24 : decode cX9_with 24 = .ok (.getfield 9, 3) := dk_180 0 9 (dk_at dksX9_with_1 0 rfl rfl)
theorem dX9_with_27 : decode cX9_with 27 = .ok (.aload_n 3, 1) := dk_45 (dk_at dksX9_with_1 3 rfl rfl)
theorem dX9_with_28 : decode cX9_with 28 = .ok (.invokespecial 25, 3) := dk_183 0 25 (dk_at dksX9_with_1 4 rfl rfl)
theorem dX9_with_31 : decode cX9_with 31 = .ok (.areturn, 1) := dk_176 (dk_at dksX9_with_1 7 rfl rfl)
theorem q107 : (Jvm.Cond.initialized "QueryHarbor$Row") ∈ lw_all := lw_g (lw_at lw_m1 23 rfl) rfl
theorem q634 : (Jvm.Cond.instantiable "QueryHarbor$Row" (2 : Nat)) ∈ lw_all := lw_g (lw_at lw_m3 70 rfl) rfl
theorem q636 : (Jvm.Cond.instanceMethod ({ cls := "QueryHarbor$Row", name := "<init>", desc := "(I[I)V" } : Jvm.MethodName)) ∈ lw_all := lw_g (lw_at lw_m3 72 rfl) rfl
theorem q637 : (Jvm.Cond.code ({ cls := "QueryHarbor$Row", name := "<init>", desc := "(I[I)V" } : Jvm.MethodName) prog_14_method_1_code (3 : Nat) (Option.none : Option Jvm.ClassFile.FieldType)) ∈ lw_all := lw_g (lw_at lw_m3 73 rfl) rfl
theorem q638 : (Jvm.Cond.methodLink "QueryHarbor$Row" (3 : Nat) ({ cls := "java/lang/Object", name := "<init>", desc := "()V" } : Jvm.MethodName)) ∈ lw_all := lw_g (lw_at lw_m3 74 rfl) rfl
theorem q639 : (Jvm.Cond.fieldLink "QueryHarbor$Row" (9 : Nat) "QueryHarbor$Row" "mark" "I") ∈ lw_all := lw_g (lw_at lw_m3 75 rfl) rfl
theorem q643 : (Jvm.Cond.fieldLink "QueryHarbor$Row" (15 : Nat) "QueryHarbor$Row" "cells" "[I") ∈ lw_all := lw_g (lw_at lw_m3 79 rfl) rfl
theorem q647 : (Jvm.Cond.laysFinal "QueryHarbor$Row" "QueryHarbor$Row" "mark" "I") ∈ lw_all := lw_g (lw_at lw_m3 83 rfl) rfl
theorem q648 : (Jvm.Cond.soleField "QueryHarbor$Row" "mark") ∈ lw_all := lw_g (lw_at lw_m3 84 rfl) rfl
theorem q649 : (Jvm.Cond.laysFinal "QueryHarbor$Row" "QueryHarbor$Row" "cells" "[I") ∈ lw_all := lw_g (lw_at lw_m3 85 rfl) rfl
theorem q650 : (Jvm.Cond.soleField "QueryHarbor$Row" "cells") ∈ lw_all := lw_g (lw_at lw_m3 86 rfl) rfl
theorem q651 : (Jvm.Cond.superclass "QueryHarbor$Row" "java/lang/Object") ∈ lw_all := lw_g (lw_at lw_m3 87 rfl) rfl
theorem q935 : (Jvm.Cond.selects "QueryHarbor$Row" ({ cls := "java/lang/Object", name := "getClass", desc := "()Ljava/lang/Class;" } : Jvm.MethodName) ({ cls := "java/lang/Object", name := "getClass", desc := "()Ljava/lang/Class;" } : Jvm.MethodName)) ∈ lw_all := lw_g (lw_at lw_m4 131 rfl) rfl
theorem q1052 : (Jvm.Cond.instanceMethod ({ cls := "QueryHarbor$Row", name := "with", desc := "(II)LQueryHarbor$Row;" } : Jvm.MethodName)) ∈ lw_all := lw_g (lw_at lw_m5 8 rfl) rfl
theorem q1053 : (Jvm.Cond.selects "QueryHarbor$Row" ({ cls := "QueryHarbor$Row", name := "with", desc := "(II)LQueryHarbor$Row;" } : Jvm.MethodName) ({ cls := "QueryHarbor$Row", name := "with", desc := "(II)LQueryHarbor$Row;" } : Jvm.MethodName)) ∈ lw_all := lw_g (lw_at lw_m5 9 rfl) rfl
theorem q1054 : (Jvm.Cond.code ({ cls := "QueryHarbor$Row", name := "with", desc := "(II)LQueryHarbor$Row;" } : Jvm.MethodName) prog_14_method_2_code (4 : Nat) (Option.some (Jvm.ClassFile.FieldType.object "QueryHarbor$Row"))) ∈ lw_all := lw_g (lw_at lw_m5 10 rfl) rfl
theorem q1055 : (Jvm.Cond.methodLink "QueryHarbor$Row" (19 : Nat) ({ cls := "java/lang/System", name := "arraycopy", desc := "(Ljava/lang/Object;ILjava/lang/Object;II)V" } : Jvm.MethodName)) ∈ lw_all := lw_g (lw_at lw_m5 11 rfl) rfl
theorem q1056 : (Jvm.Cond.classLink "QueryHarbor$Row" (10 : Nat) "QueryHarbor$Row") ∈ lw_all := lw_g (lw_at lw_m5 12 rfl) rfl
theorem q1057 : (Jvm.Cond.methodLink "QueryHarbor$Row" (25 : Nat) ({ cls := "QueryHarbor$Row", name := "<init>", desc := "(I[I)V" } : Jvm.MethodName)) ∈ lw_all := lw_g (lw_at lw_m5 13 rfl) rfl
theorem q2337 : (Jvm.Cond.castable "QueryHarbor$Row" "java/lang/Object") ∈ lw_tbl := lw_at lw_m10 93 rfl
theorem in_X9 : ∀ w ∈ wsX90, w ∈ lw_all := lw_in wsX90 [647, 649] (by decide +kernel) (by decide +kernel)
/-! QueryHarbor$Message -/
set_option maxRecDepth 100000
def RX10 : String := "QueryHarbor$Message"
def TX10 : u_T := fun k => match k with
  | 0 => ("QueryHarbor$Message", "source", "I", true)
  | 1 => ("QueryHarbor$Message", "due", "I", true)
  | _ => ("QueryHarbor$Message", "moment", "I", true)
def tyX10 : Nat → FieldType := fun k => match k with
  | 0 => .int
  | 1 => .int
  | _ => .int
abbrev wsX100 : List Cond := u_ws RX10 TX10 3
theorem nmX10 : ∀ a, a < 3 → ∀ b, b < 3 → a ≠ b → (TX10 a).2.1 ≠ (TX10 b).2.1 := by decide +kernel
theorem tyX10_ok : ∀ k, k < 3 → parseFieldDescriptor (TX10 k).2.2.1 = some (tyX10 k) := by decide +kernel
abbrev cX10_init : ByteArray := prog_11_method_1_code
def yX10_init : MethodName := ⟨RX10, "<init>", "(III)V"⟩
def dkwX10_init_0 : List UInt8 := [42, 183, 0, 1, 42, 27, 181, 0, 7, 42, 28, 181, 0, 13, 42, 29, 181, 0, 16, 177]
abbrev dktX10_init_0 : List UInt8 := dkwX10_init_0 ++ []
theorem dksX10_init_0 : cX10_init.data.toList.drop 0 = dktX10_init_0 := by decide +kernel
theorem dX10_init_0 : decode cX10_init 0 = .ok (.aload_n 0, 1) := dk_42 (dk_at dksX10_init_0 0 rfl rfl)
theorem dX10_init_1 : decode cX10_init 1 = .ok (.invokespecial 1, 3) := dk_183 0 1 (dk_at dksX10_init_0 1 rfl rfl)
theorem dX10_init_4 : decode cX10_init 4 = .ok (.aload_n 0, 1) := dk_42 (dk_at dksX10_init_0 4 rfl rfl)
theorem dX10_init_5 : decode cX10_init 5 = .ok (.iload_n 1, 1) := dk_27 (dk_at dksX10_init_0 5 rfl rfl)
theorem dX10_init_6 : decode cX10_init 6 = .ok (.putfield 7, 3) := dk_181 0 7 (dk_at dksX10_init_0 6 rfl rfl)
theorem dX10_init_9 : decode cX10_init 9 = .ok (.aload_n 0, 1) := dk_42 (dk_at dksX10_init_0 9 rfl rfl)
theorem dX10_init_10 : decode cX10_init 10 = .ok (.iload_n 2, 1) := dk_28 (dk_at dksX10_init_0 10 rfl rfl)
theorem dX10_init_11 : decode cX10_init 11 = .ok (.putfield 13, 3) := dk_181 0 13 (dk_at dksX10_init_0 11 rfl rfl)
theorem dX10_init_14 : decode cX10_init 14 = .ok (.aload_n 0, 1) := dk_42 (dk_at dksX10_init_0 14 rfl rfl)
theorem dX10_init_15 : decode cX10_init 15 = .ok (.iload_n 3, 1) := dk_29 (dk_at dksX10_init_0 15 rfl rfl)
theorem dX10_init_16 : decode cX10_init 16 = .ok (.putfield 16, 3) := dk_181 0 16 (dk_at dksX10_init_0 16 rfl rfl)
theorem dX10_init_19 : decode cX10_init 19 = .ok (.return_, 1) := dk_177 (dk_at dksX10_init_0 19 rfl rfl)
theorem q118 : (Jvm.Cond.initialized "QueryHarbor$Message") ∈ lw_all := lw_g (lw_at lw_m1 34 rfl) rfl
theorem q932 : (Jvm.Cond.selects "QueryHarbor$Message" ({ cls := "java/lang/Object", name := "getClass", desc := "()Ljava/lang/Class;" } : Jvm.MethodName) ({ cls := "java/lang/Object", name := "getClass", desc := "()Ljava/lang/Class;" } : Jvm.MethodName)) ∈ lw_all := lw_g (lw_at lw_m4 128 rfl) rfl
theorem q991 : (Jvm.Cond.instantiable "QueryHarbor$Message" (3 : Nat)) ∈ lw_all := lw_g (lw_at lw_m4 187 rfl) rfl
theorem q993 : (Jvm.Cond.instanceMethod ({ cls := "QueryHarbor$Message", name := "<init>", desc := "(III)V" } : Jvm.MethodName)) ∈ lw_all := lw_g (lw_at lw_m4 189 rfl) rfl
theorem q994 : (Jvm.Cond.code ({ cls := "QueryHarbor$Message", name := "<init>", desc := "(III)V" } : Jvm.MethodName) prog_11_method_1_code (4 : Nat) (Option.none : Option Jvm.ClassFile.FieldType)) ∈ lw_all := lw_g (lw_at lw_m4 190 rfl) rfl
theorem q995 : (Jvm.Cond.methodLink "QueryHarbor$Message" (1 : Nat) ({ cls := "java/lang/Object", name := "<init>", desc := "()V" } : Jvm.MethodName)) ∈ lw_all := lw_g (lw_at lw_m4 191 rfl) rfl
theorem q996 : (Jvm.Cond.fieldLink "QueryHarbor$Message" (7 : Nat) "QueryHarbor$Message" "source" "I") ∈ lw_all := lw_g (lw_at lw_m4 192 rfl) rfl
theorem q998 : (Jvm.Cond.fieldLink "QueryHarbor$Message" (13 : Nat) "QueryHarbor$Message" "due" "I") ∈ lw_all := lw_g (lw_at lw_m4 194 rfl) rfl
theorem q1000 : (Jvm.Cond.fieldLink "QueryHarbor$Message" (16 : Nat) "QueryHarbor$Message" "moment" "I") ∈ lw_all := lw_g (lw_at lw_m4 196 rfl) rfl
theorem q1002 : (Jvm.Cond.laysFinal "QueryHarbor$Message" "QueryHarbor$Message" "source" "I") ∈ lw_all := lw_g (lw_at lw_m4 198 rfl) rfl
theorem q1003 : (Jvm.Cond.soleField "QueryHarbor$Message" "source") ∈ lw_all := lw_g (lw_at lw_m4 199 rfl) rfl
theorem q1004 : (Jvm.Cond.laysFinal "QueryHarbor$Message" "QueryHarbor$Message" "due" "I") ∈ lw_all := lw_g (lw_at lw_m4 200 rfl) rfl
theorem q1005 : (Jvm.Cond.soleField "QueryHarbor$Message" "due") ∈ lw_all := lw_g (lw_at lw_m4 201 rfl) rfl
theorem q1006 : (Jvm.Cond.laysFinal "QueryHarbor$Message" "QueryHarbor$Message" "moment" "I") ∈ lw_all := lw_g (lw_at lw_m4 202 rfl) rfl
theorem q1007 : (Jvm.Cond.soleField "QueryHarbor$Message" "moment") ∈ lw_all := lw_g (lw_at lw_m4 203 rfl) rfl
theorem q1008 : (Jvm.Cond.superclass "QueryHarbor$Message" "java/lang/Object") ∈ lw_all := lw_g (lw_at lw_m4 204 rfl) rfl
theorem q2352 : (Jvm.Cond.castable "QueryHarbor$Message" "java/lang/Object") ∈ lw_tbl := lw_at lw_m10 108 rfl
theorem in_X10 : ∀ w ∈ wsX100, w ∈ lw_all := lw_in wsX100 [1002, 1004, 1006] (by decide +kernel) (by decide +kernel)
/-! QueryHarbor$Link -/
set_option maxRecDepth 100000
def RX11 : String := "QueryHarbor$Link"
def TX11 : u_T := fun k => match k with
  | 0 => ("QueryHarbor$Link", "seat", "I", true)
  | 1 => ("QueryHarbor$Link", "column", "I", true)
  | 2 => ("QueryHarbor$Link", "other", "I", true)
  | _ => ("QueryHarbor$Link", "otherColumn", "I", true)
def tyX11 : Nat → FieldType := fun k => match k with
  | 0 => .int
  | 1 => .int
  | 2 => .int
  | _ => .int
abbrev wsX110 : List Cond := u_ws RX11 TX11 4
theorem nmX11 : ∀ a, a < 4 → ∀ b, b < 4 → a ≠ b → (TX11 a).2.1 ≠ (TX11 b).2.1 := by decide +kernel
theorem tyX11_ok : ∀ k, k < 4 → parseFieldDescriptor (TX11 k).2.2.1 = some (tyX11 k) := by decide +kernel
abbrev cX11_init : ByteArray := prog_10_method_1_code
def yX11_init : MethodName := ⟨RX11, "<init>", "(IIII)V"⟩
def dkwX11_init_1 : List UInt8 := [181, 0, 19, 177]
abbrev dktX11_init_1 : List UInt8 := dkwX11_init_1 ++ []
def dkwX11_init_0 : List UInt8 := [42, 183, 0, 1, 42, 27, 181, 0, 7, 42, 28, 181, 0, 13, 42, 29, 181, 0, 16, 42, 21, 4]
abbrev dktX11_init_0 : List UInt8 := dkwX11_init_0 ++ dktX11_init_1
theorem dksX11_init_0 : cX11_init.data.toList.drop 0 = dktX11_init_0 := by decide +kernel
theorem dksX11_init_1 : cX11_init.data.toList.drop 22 = dktX11_init_1 := dk_seg dksX11_init_0 22 rfl rfl
theorem dX11_init_0 : decode cX11_init 0 = .ok (.aload_n 0, 1) := dk_42 (dk_at dksX11_init_0 0 rfl rfl)
theorem dX11_init_1 : decode cX11_init 1 = .ok (.invokespecial 1, 3) := dk_183 0 1 (dk_at dksX11_init_0 1 rfl rfl)
theorem dX11_init_4 : decode cX11_init 4 = .ok (.aload_n 0, 1) := dk_42 (dk_at dksX11_init_0 4 rfl rfl)
theorem dX11_init_5 : decode cX11_init 5 = .ok (.iload_n 1, 1) := dk_27 (dk_at dksX11_init_0 5 rfl rfl)
theorem dX11_init_6 : decode cX11_init 6 = .ok (.putfield 7, 3) := dk_181 0 7 (dk_at dksX11_init_0 6 rfl rfl)
theorem dX11_init_9 : decode cX11_init 9 = .ok (.aload_n 0, 1) := dk_42 (dk_at dksX11_init_0 9 rfl rfl)
theorem dX11_init_10 : decode cX11_init 10 = .ok (.iload_n 2, 1) := dk_28 (dk_at dksX11_init_0 10 rfl rfl)
theorem dX11_init_11 : decode cX11_init 11 = .ok (.putfield 13, 3) := dk_181 0 13 (dk_at dksX11_init_0 11 rfl rfl)
theorem dX11_init_14 : decode cX11_init 14 = .ok (.aload_n 0, 1) := dk_42 (dk_at dksX11_init_0 14 rfl rfl)
theorem dX11_init_15 : decode cX11_init 15 = .ok (.iload_n 3, 1) := dk_29 (dk_at dksX11_init_0 15 rfl rfl)
theorem dX11_init_16 : decode cX11_init 16 = .ok (.putfield 16, 3) := dk_181 0 16 (dk_at dksX11_init_0 16 rfl rfl)
theorem dX11_init_19 : decode cX11_init 19 = .ok (.aload_n 0, 1) := dk_42 (dk_at dksX11_init_0 19 rfl rfl)
theorem dX11_init_20 : decode cX11_init 20 = .ok (.iload 4, 2) := dk_21 4 (dk_at dksX11_init_0 20 rfl rfl)
theorem dX11_init_22 : decode cX11_init 22 = .ok (.putfield 19, 3) := dk_181 0 19 (dk_at dksX11_init_1 0 rfl rfl)
theorem dX11_init_25 : decode cX11_init 25 = .ok (.return_, 1) := dk_177 (dk_at dksX11_init_1 3 rfl rfl)
abbrev cX11_joins : ByteArray := prog_10_method_2_code
def yX11_joins : MethodName := ⟨RX11, "joins", "(II)Z"⟩
def dkwX11_joins_1 : List UInt8 := [42, 180, 0, 16, 27, 160, 0, 7, 4, 167, 0, 4, 3, 172]
abbrev dktX11_joins_1 : List UInt8 := dkwX11_joins_1 ++ []
def dkwX11_joins_0 : List UInt8 := [42, 180, 0, 7, 27, 160, 0, 11, 42, 180, 0, 16, 28, 159, 0, 19, 42, 180, 0, 7, 28, 160, 0, 15]
abbrev dktX11_joins_0 : List UInt8 := dkwX11_joins_0 ++ dktX11_joins_1
theorem dksX11_joins_0 : cX11_joins.data.toList.drop 0 = dktX11_joins_0 := by decide +kernel
theorem dksX11_joins_1 : cX11_joins.data.toList.drop 24 = dktX11_joins_1 := dk_seg dksX11_joins_0 24 rfl rfl
theorem dX11_joins_0 : decode cX11_joins 0 = .ok (.aload_n 0, 1) := dk_42 (dk_at dksX11_joins_0 0 rfl rfl)
theorem dX11_joins_1 : decode cX11_joins 1 = .ok (.getfield 7, 3) := dk_180 0 7 (dk_at dksX11_joins_0 1 rfl rfl)
theorem dX11_joins_4 : decode cX11_joins 4 = .ok (.iload_n 1, 1) := dk_27 (dk_at dksX11_joins_0 4 rfl rfl)
theorem dX11_joins_5 : decode cX11_joins 5 = .ok (.if_icmp .ne 11, 3) := dk_160 0 11 (dk_at dksX11_joins_0 5 rfl rfl)
theorem dX11_joins_8 : decode cX11_joins 8 = .ok (.aload_n 0, 1) := dk_42 (dk_at dksX11_joins_0 8 rfl rfl)
theorem dX11_joins_9 : decode cX11_joins 9 = .ok (.getfield 16, 3) := dk_180 0 16 (dk_at dksX11_joins_0 9 rfl rfl)
theorem dX11_joins_12 : decode cX11_joins 12 = .ok (.iload_n 2, 1) := dk_28 (dk_at dksX11_joins_0 12 rfl rfl)
theorem dX11_joins_13 : decode cX11_joins 13 = .ok (.if_icmp .eq 19, 3) := dk_159 0 19 (dk_at dksX11_joins_0 13 rfl rfl)
theorem dX11_joins_16 : decode cX11_joins 16 = .ok (.aload_n 0, 1) := dk_42 (dk_at dksX11_joins_0 16 rfl rfl)
theorem dX11_joins_17 : decode cX11_joins 17 = .ok (.getfield 7, 3) := dk_180 0 7 (dk_at dksX11_joins_0 17 rfl rfl)
theorem dX11_joins_20 : decode cX11_joins 20 = .ok (.iload_n 2, 1) := dk_28 (dk_at dksX11_joins_0 20 rfl rfl)
theorem dX11_joins_21 : decode cX11_joins 21 = .ok (.if_icmp .ne 15, 3) := dk_160 0 15 (dk_at dksX11_joins_0 21 rfl rfl)
theorem dX11_joins_24 : decode cX11_joins 24 = .ok (.aload_n 0, 1) := dk_42 (dk_at dksX11_joins_1 0 rfl rfl)
theorem dX11_joins_25 : decode cX11_joins 25 = .ok (.getfield 16, 3) := dk_180 0 16 (dk_at dksX11_joins_1 1 rfl rfl)
theorem dX11_joins_28 : decode cX11_joins 28 = .ok (.iload_n 1, 1) := dk_27 (dk_at dksX11_joins_1 4 rfl rfl)
theorem dX11_joins_29 : decode cX11_joins 29 = .ok (.if_icmp .ne 7, 3) := dk_160 0 7 (dk_at dksX11_joins_1 5 rfl rfl)
theorem dX11_joins_32 : decode cX11_joins 32 = .ok (.iconst 1, 1) := dk_4 (dk_at dksX11_joins_1 8 rfl rfl)
theorem dX11_joins_33 : decode cX11_joins 33 = .ok (.goto 4, 3) := dk_167 0 4 (dk_at dksX11_joins_1 9 rfl rfl)
theorem dX11_joins_36 : decode cX11_joins 36 = .ok (.iconst 0, 1) := dk_3 (dk_at dksX11_joins_1 12 rfl rfl)
theorem dX11_joins_37 : decode cX11_joins 37 = .ok (.ireturn, 1) := dk_172 (dk_at dksX11_joins_1 13 rfl rfl)
abbrev cX11_columnOf : ByteArray := prog_10_method_3_code
def yX11_columnOf : MethodName := ⟨RX11, "columnOf", "(I)I"⟩
def dkwX11_columnOf_0 : List UInt8 := [27, 42, 180, 0, 7, 160, 0, 10, 42, 180, 0, 13, 167, 0, 7, 42, 180, 0, 19, 172]
abbrev dktX11_columnOf_0 : List UInt8 := dkwX11_columnOf_0 ++ []
theorem dksX11_columnOf_0 : cX11_columnOf.data.toList.drop 0 = dktX11_columnOf_0 := by decide +kernel
theorem dX11_columnOf_0 : decode cX11_columnOf 0 = .ok (.iload_n 1, 1) := dk_27 (dk_at dksX11_columnOf_0 0 rfl rfl)
theorem dX11_columnOf_1 : decode cX11_columnOf 1 = .ok (.aload_n 0, 1) := dk_42 (dk_at dksX11_columnOf_0 1 rfl rfl)
theorem dX11_columnOf_2 : decode cX11_columnOf 2 = .ok (.getfield 7, 3) := dk_180 0 7 (dk_at dksX11_columnOf_0 2 rfl rfl)
theorem dX11_columnOf_5 : decode cX11_columnOf 5 = .ok (.if_icmp .ne 10, 3) := dk_160 0 10 (dk_at dksX11_columnOf_0 5 rfl rfl)
theorem dX11_columnOf_8 : decode cX11_columnOf 8 = .ok (.aload_n 0, 1) := dk_42 (dk_at dksX11_columnOf_0 8 rfl rfl)
theorem dX11_columnOf_9 : decode cX11_columnOf 9 = .ok (.getfield 13, 3) := dk_180 0 13 (dk_at dksX11_columnOf_0 9 rfl rfl)
theorem dX11_columnOf_12 : decode cX11_columnOf 12 = .ok (.goto 7, 3) := dk_167 0 7 (dk_at dksX11_columnOf_0 12 rfl rfl)
theorem dX11_columnOf_15 : decode cX11_columnOf 15 = .ok (.aload_n 0, 1) := dk_42 (dk_at dksX11_columnOf_0 15 rfl rfl)
theorem dX11_columnOf_16 : decode cX11_columnOf 16 = .ok (.getfield 19, 3) := dk_180 0 19 (dk_at dksX11_columnOf_0 16 rfl rfl)
theorem dX11_columnOf_19 : decode cX11_columnOf 19 = .ok (.ireturn, 1) := dk_172 (dk_at dksX11_columnOf_0 19 rfl rfl)
abbrev cX11_holdsFor : ByteArray := prog_10_method_4_code
def yX11_holdsFor : MethodName := ⟨RX11, "holdsFor", "(LQueryHarbor$Row;LQueryHarbor$Row;)Z"⟩
def dkwX11_holdsFor_1 : List UInt8 := [44, 180, 0, 22, 42, 180, 0, 19, 46, 160, 0, 7, 4, 167, 0, 4, 3, 172]
abbrev dktX11_holdsFor_1 : List UInt8 := dkwX11_holdsFor_1 ++ []
def dkwX11_holdsFor_0 : List UInt8 := [43, 180, 0, 22, 42, 180, 0, 13, 46, 184, 0, 28, 153, 0, 28, 43, 180, 0, 22, 42, 180, 0, 13, 46]
abbrev dktX11_holdsFor_0 : List UInt8 := dkwX11_holdsFor_0 ++ dktX11_holdsFor_1
theorem dksX11_holdsFor_0 : cX11_holdsFor.data.toList.drop 0 = dktX11_holdsFor_0 := by decide +kernel
theorem dksX11_holdsFor_1 : cX11_holdsFor.data.toList.drop 24 = dktX11_holdsFor_1 := dk_seg dksX11_holdsFor_0 24 rfl rfl
theorem dX11_holdsFor_0 : decode cX11_holdsFor 0 = .ok (.aload_n 1, 1) := dk_43 (dk_at dksX11_holdsFor_0 0 rfl rfl)
theorem dX11_holdsFor_1 : decode cX11_holdsFor 1 = .ok (.getfield 22, 3) := dk_180 0 22 (dk_at dksX11_holdsFor_0 1 rfl rfl)
theorem dX11_holdsFor_4 : decode cX11_holdsFor 4 = .ok (.aload_n 0, 1) := dk_42 (dk_at dksX11_holdsFor_0 4 rfl rfl)
theorem dX11_holdsFor_5 : decode cX11_holdsFor 5 = .ok (.getfield 13, 3) := dk_180 0 13 (dk_at dksX11_holdsFor_0 5 rfl rfl)
theorem dX11_holdsFor_8 : decode cX11_holdsFor 8 = .ok (.iaload, 1) := dk_46 (dk_at dksX11_holdsFor_0 8 rfl rfl)
theorem dX11_holdsFor_9 : decode cX11_holdsFor 9 = .ok (.invokestatic 28, 3) := dk_184 0 28 (dk_at dksX11_holdsFor_0 9 rfl rfl)
theorem dX11_holdsFor_12 : decode cX11_holdsFor 12 = .ok (.ifCond .eq 28, 3) := dk_153 0 28 (dk_at dksX11_holdsFor_0 12 rfl rfl)
theorem dX11_holdsFor_15 : decode cX11_holdsFor 15 = .ok (.aload_n 1, 1) := dk_43 (dk_at dksX11_holdsFor_0 15 rfl rfl)
theorem dX11_holdsFor_16 : decode cX11_holdsFor 16 = .ok (.getfield 22, 3) := dk_180 0 22 (dk_at dksX11_holdsFor_0 16 rfl rfl)
theorem dX11_holdsFor_19 : decode cX11_holdsFor 19 = .ok (.aload_n 0, 1) := dk_42 (dk_at dksX11_holdsFor_0 19 rfl rfl)
theorem dX11_holdsFor_20 : decode cX11_holdsFor 20 = .ok (.getfield 13, 3) := dk_180 0 13 (dk_at dksX11_holdsFor_0 20 rfl rfl)
theorem dX11_holdsFor_23 : decode cX11_holdsFor 23 = .ok (.iaload, 1) := dk_46 (dk_at dksX11_holdsFor_0 23 rfl rfl)
theorem dX11_holdsFor_24 : decode cX11_holdsFor 24 = .ok (.aload_n 2, 1) := dk_44 (dk_at dksX11_holdsFor_1 0 rfl rfl)
theorem dX11_holdsFor_25 : decode cX11_holdsFor 25 = .ok (.getfield 22, 3) := dk_180 0 22 (dk_at dksX11_holdsFor_1 1 rfl rfl)
theorem dX11_holdsFor_28 : decode cX11_holdsFor 28 = .ok (.aload_n 0, 1) := dk_42 (dk_at dksX11_holdsFor_1 4 rfl rfl)
theorem dX11_holdsFor_29 : decode cX11_holdsFor 29 = .ok (.getfield 19, 3) := dk_180 0 19 (dk_at dksX11_holdsFor_1 5 rfl rfl)
theorem dX11_holdsFor_32 : decode cX11_holdsFor 32 = .ok (.iaload, 1) := dk_46 (dk_at dksX11_holdsFor_1 8 rfl rfl)
theorem dX11_holdsFor_33 : decode cX11_holdsFor 33 = .ok (.if_icmp .ne 7, 3) := dk_160 0 7 (dk_at dksX11_holdsFor_1 9 rfl rfl)
theorem dX11_holdsFor_36 : decode cX11_holdsFor 36 = .ok (.iconst 1, 1) := dk_4 (dk_at dksX11_holdsFor_1 12 rfl rfl)
theorem dX11_holdsFor_37 : decode cX11_holdsFor 37 = .ok (.goto 4, 3) := dk_167 0 4 (dk_at dksX11_holdsFor_1 13 rfl rfl)
theorem dX11_holdsFor_40 : decode cX11_holdsFor 40 = .ok (.iconst 0, 1) := dk_3 (dk_at dksX11_holdsFor_1 16 rfl rfl)
theorem dX11_holdsFor_41 : decode cX11_holdsFor 41 = .ok (.ireturn, 1) := dk_172 (dk_at dksX11_holdsFor_1 17 rfl rfl)
theorem q119 : (Jvm.Cond.initialized "QueryHarbor$Link") ∈ lw_all := lw_g (lw_at lw_m1 35 rfl) rfl
theorem q645 : (Jvm.Cond.fieldLink "QueryHarbor$Link" (22 : Nat) "QueryHarbor$Row" "cells" "[I") ∈ lw_all := lw_g (lw_at lw_m3 81 rfl) rfl
theorem q931 : (Jvm.Cond.selects "QueryHarbor$Link" ({ cls := "java/lang/Object", name := "getClass", desc := "()Ljava/lang/Class;" } : Jvm.MethodName) ({ cls := "java/lang/Object", name := "getClass", desc := "()Ljava/lang/Class;" } : Jvm.MethodName)) ∈ lw_all := lw_g (lw_at lw_m4 127 rfl) rfl
theorem q1164 : (Jvm.Cond.instantiable "QueryHarbor$Link" (4 : Nat)) ∈ lw_all := lw_g (lw_at lw_m5 120 rfl) rfl
theorem q1166 : (Jvm.Cond.instanceMethod ({ cls := "QueryHarbor$Link", name := "<init>", desc := "(IIII)V" } : Jvm.MethodName)) ∈ lw_all := lw_g (lw_at lw_m5 122 rfl) rfl
theorem q1167 : (Jvm.Cond.code ({ cls := "QueryHarbor$Link", name := "<init>", desc := "(IIII)V" } : Jvm.MethodName) prog_10_method_1_code (5 : Nat) (Option.none : Option Jvm.ClassFile.FieldType)) ∈ lw_all := lw_g (lw_at lw_m5 123 rfl) rfl
theorem q1168 : (Jvm.Cond.methodLink "QueryHarbor$Link" (1 : Nat) ({ cls := "java/lang/Object", name := "<init>", desc := "()V" } : Jvm.MethodName)) ∈ lw_all := lw_g (lw_at lw_m5 124 rfl) rfl
theorem q1169 : (Jvm.Cond.fieldLink "QueryHarbor$Link" (7 : Nat) "QueryHarbor$Link" "seat" "I") ∈ lw_all := lw_g (lw_at lw_m5 125 rfl) rfl
theorem q1171 : (Jvm.Cond.fieldLink "QueryHarbor$Link" (13 : Nat) "QueryHarbor$Link" "column" "I") ∈ lw_all := lw_g (lw_at lw_m5 127 rfl) rfl
theorem q1172 : (Jvm.Cond.fieldLink "QueryHarbor$Link" (16 : Nat) "QueryHarbor$Link" "other" "I") ∈ lw_all := lw_g (lw_at lw_m5 128 rfl) rfl
theorem q1174 : (Jvm.Cond.fieldLink "QueryHarbor$Link" (19 : Nat) "QueryHarbor$Link" "otherColumn" "I") ∈ lw_all := lw_g (lw_at lw_m5 130 rfl) rfl
theorem q1175 : (Jvm.Cond.laysFinal "QueryHarbor$Link" "QueryHarbor$Link" "seat" "I") ∈ lw_all := lw_g (lw_at lw_m5 131 rfl) rfl
theorem q1176 : (Jvm.Cond.soleField "QueryHarbor$Link" "seat") ∈ lw_all := lw_g (lw_at lw_m5 132 rfl) rfl
theorem q1177 : (Jvm.Cond.laysFinal "QueryHarbor$Link" "QueryHarbor$Link" "column" "I") ∈ lw_all := lw_g (lw_at lw_m5 133 rfl) rfl
theorem q1178 : (Jvm.Cond.soleField "QueryHarbor$Link" "column") ∈ lw_all := lw_g (lw_at lw_m5 134 rfl) rfl
theorem q1179 : (Jvm.Cond.laysFinal "QueryHarbor$Link" "QueryHarbor$Link" "other" "I") ∈ lw_all := lw_g (lw_at lw_m5 135 rfl) rfl
theorem q1180 : (Jvm.Cond.soleField "QueryHarbor$Link" "other") ∈ lw_all := lw_g (lw_at lw_m5 136 rfl) rfl
theorem q1181 : (Jvm.Cond.laysFinal "QueryHarbor$Link" "QueryHarbor$Link" "otherColumn" "I") ∈ lw_all := lw_g (lw_at lw_m5 137 rfl) rfl
theorem q1182 : (Jvm.Cond.soleField "QueryHarbor$Link" "otherColumn") ∈ lw_all := lw_g (lw_at lw_m5 138 rfl) rfl
theorem q1183 : (Jvm.Cond.superclass "QueryHarbor$Link" "java/lang/Object") ∈ lw_all := lw_g (lw_at lw_m5 139 rfl) rfl
theorem q1335 : (Jvm.Cond.instanceMethod ({ cls := "QueryHarbor$Link", name := "joins", desc := "(II)Z" } : Jvm.MethodName)) ∈ lw_all := lw_g (lw_at lw_m6 51 rfl) rfl
theorem q1336 : (Jvm.Cond.selects "QueryHarbor$Link" ({ cls := "QueryHarbor$Link", name := "joins", desc := "(II)Z" } : Jvm.MethodName) ({ cls := "QueryHarbor$Link", name := "joins", desc := "(II)Z" } : Jvm.MethodName)) ∈ lw_all := lw_g (lw_at lw_m6 52 rfl) rfl
theorem q1337 : (Jvm.Cond.code ({ cls := "QueryHarbor$Link", name := "joins", desc := "(II)Z" } : Jvm.MethodName) prog_10_method_2_code (3 : Nat) (Option.some Jvm.ClassFile.FieldType.boolean)) ∈ lw_all := lw_g (lw_at lw_m6 53 rfl) rfl
theorem q1364 : (Jvm.Cond.instanceMethod ({ cls := "QueryHarbor$Link", name := "columnOf", desc := "(I)I" } : Jvm.MethodName)) ∈ lw_all := lw_g (lw_at lw_m6 80 rfl) rfl
theorem q1365 : (Jvm.Cond.selects "QueryHarbor$Link" ({ cls := "QueryHarbor$Link", name := "columnOf", desc := "(I)I" } : Jvm.MethodName) ({ cls := "QueryHarbor$Link", name := "columnOf", desc := "(I)I" } : Jvm.MethodName)) ∈ lw_all := lw_g (lw_at lw_m6 81 rfl) rfl
theorem q1366 : (Jvm.Cond.code ({ cls := "QueryHarbor$Link", name := "columnOf", desc := "(I)I" } : Jvm.MethodName) prog_10_method_3_code (2 : Nat) (Option.some Jvm.ClassFile.FieldType.int)) ∈ lw_all := lw_g (lw_at lw_m6 82 rfl) rfl
theorem q1545 : (Jvm.Cond.instanceMethod ({ cls := "QueryHarbor$Link", name := "holdsFor", desc := "(LQueryHarbor$Row;LQueryHarbor$Row;)Z" } : Jvm.MethodName)) ∈ lw_all := lw_g (lw_at lw_m7 21 rfl) rfl
theorem q1546 : (Jvm.Cond.selects "QueryHarbor$Link" ({ cls := "QueryHarbor$Link", name := "holdsFor", desc := "(LQueryHarbor$Row;LQueryHarbor$Row;)Z" } : Jvm.MethodName) ({ cls := "QueryHarbor$Link", name := "holdsFor", desc := "(LQueryHarbor$Row;LQueryHarbor$Row;)Z" } : Jvm.MethodName)) ∈ lw_all := lw_g (lw_at lw_m7 22 rfl) rfl
theorem q1547 : (Jvm.Cond.code ({ cls := "QueryHarbor$Link", name := "holdsFor", desc := "(LQueryHarbor$Row;LQueryHarbor$Row;)Z" } : Jvm.MethodName) prog_10_method_4_code (3 : Nat) (Option.some Jvm.ClassFile.FieldType.boolean)) ∈ lw_all := lw_g (lw_at lw_m7 23 rfl) rfl
theorem q1548 : (Jvm.Cond.methodLinkNest "QueryHarbor$Link" (28 : Nat) ({ cls := "QueryHarbor", name := "isNumber", desc := "(I)Z" } : Jvm.MethodName) "QueryHarbor") ∈ lw_tbl := lw_at lw_m7 24 rfl
theorem q2353 : (Jvm.Cond.castable "QueryHarbor$Link" "java/lang/Object") ∈ lw_tbl := lw_at lw_m10 109 rfl
theorem in_X11 : ∀ w ∈ wsX110, w ∈ lw_all := lw_in wsX110 [1175, 1177, 1179, 1181] (by decide +kernel) (by decide +kernel)
/-! QueryHarbor$Condition -/
set_option maxRecDepth 100000
def RX12 : String := "QueryHarbor$Condition"
def TX12 : u_T := fun k => match k with
  | 0 => ("QueryHarbor$Condition", "seat", "I", true)
  | 1 => ("QueryHarbor$Condition", "column", "I", true)
  | 2 => ("QueryHarbor$Condition", "kind", "I", true)
  | _ => ("QueryHarbor$Condition", "number", "I", true)
def tyX12 : Nat → FieldType := fun k => match k with
  | 0 => .int
  | 1 => .int
  | 2 => .int
  | _ => .int
abbrev wsX120 : List Cond := u_ws RX12 TX12 4
theorem nmX12 : ∀ a, a < 4 → ∀ b, b < 4 → a ≠ b → (TX12 a).2.1 ≠ (TX12 b).2.1 := by decide +kernel
theorem tyX12_ok : ∀ k, k < 4 → parseFieldDescriptor (TX12 k).2.2.1 = some (tyX12 k) := by decide +kernel
abbrev cX12_init : ByteArray := prog_3_method_1_code
def yX12_init : MethodName := ⟨RX12, "<init>", "(IIII)V"⟩
def dkwX12_init_1 : List UInt8 := [181, 0, 21, 177]
abbrev dktX12_init_1 : List UInt8 := dkwX12_init_1 ++ []
def dkwX12_init_0 : List UInt8 := [42, 183, 0, 3, 42, 27, 181, 0, 9, 42, 28, 181, 0, 15, 42, 29, 181, 0, 18, 42, 21, 4]
abbrev dktX12_init_0 : List UInt8 := dkwX12_init_0 ++ dktX12_init_1
theorem dksX12_init_0 : cX12_init.data.toList.drop 0 = dktX12_init_0 := by decide +kernel
theorem dksX12_init_1 : cX12_init.data.toList.drop 22 = dktX12_init_1 := dk_seg dksX12_init_0 22 rfl rfl
theorem dX12_init_0 : decode cX12_init 0 = .ok (.aload_n 0, 1) := dk_42 (dk_at dksX12_init_0 0 rfl rfl)
theorem dX12_init_1 : decode cX12_init 1 = .ok (.invokespecial 3, 3) := dk_183 0 3 (dk_at dksX12_init_0 1 rfl rfl)
theorem dX12_init_4 : decode cX12_init 4 = .ok (.aload_n 0, 1) := dk_42 (dk_at dksX12_init_0 4 rfl rfl)
theorem dX12_init_5 : decode cX12_init 5 = .ok (.iload_n 1, 1) := dk_27 (dk_at dksX12_init_0 5 rfl rfl)
theorem dX12_init_6 : decode cX12_init 6 = .ok (.putfield 9, 3) := dk_181 0 9 (dk_at dksX12_init_0 6 rfl rfl)
theorem dX12_init_9 : decode cX12_init 9 = .ok (.aload_n 0, 1) := dk_42 (dk_at dksX12_init_0 9 rfl rfl)
theorem dX12_init_10 : decode cX12_init 10 = .ok (.iload_n 2, 1) := dk_28 (dk_at dksX12_init_0 10 rfl rfl)
theorem dX12_init_11 : decode cX12_init 11 = .ok (.putfield 15, 3) := dk_181 0 15 (dk_at dksX12_init_0 11 rfl rfl)
theorem dX12_init_14 : decode cX12_init 14 = .ok (.aload_n 0, 1) := dk_42 (dk_at dksX12_init_0 14 rfl rfl)
theorem dX12_init_15 : decode cX12_init 15 = .ok (.iload_n 3, 1) := dk_29 (dk_at dksX12_init_0 15 rfl rfl)
theorem dX12_init_16 : decode cX12_init 16 = .ok (.putfield 18, 3) := dk_181 0 18 (dk_at dksX12_init_0 16 rfl rfl)
theorem dX12_init_19 : decode cX12_init 19 = .ok (.aload_n 0, 1) := dk_42 (dk_at dksX12_init_0 19 rfl rfl)
theorem dX12_init_20 : decode cX12_init 20 = .ok (.iload 4, 2) := dk_21 4 (dk_at dksX12_init_0 20 rfl rfl)
theorem dX12_init_22 : decode cX12_init 22 = .ok (.putfield 21, 3) := dk_181 0 21 (dk_at dksX12_init_1 0 rfl rfl)
theorem dX12_init_25 : decode cX12_init 25 = .ok (.return_, 1) := dk_177 (dk_at dksX12_init_1 3 rfl rfl)
abbrev cX12_followsFrom : ByteArray := prog_3_method_3_code
def yX12_followsFrom : MethodName := ⟨RX12, "followsFrom", "(LQueryHarbor$Condition;)Z"⟩
def dkwX12_followsFrom_7 : List UInt8 := [172]
abbrev dktX12_followsFrom_7 : List UInt8 := dkwX12_followsFrom_7 ++ []
def dkwX12_followsFrom_6 : List UInt8 := [167, 0, 4, 3, 54, 4, 28, 154, 0, 12, 29, 154, 0, 8, 21, 4, 153, 0, 7, 4, 167, 0, 4, 3]
abbrev dktX12_followsFrom_6 : List UInt8 := dkwX12_followsFrom_6 ++ dktX12_followsFrom_7
def dkwX12_followsFrom_5 : List UInt8 := [162, 0, 21, 43, 180, 0, 18, 154, 0, 18, 43, 180, 0, 21, 42, 180, 0, 21, 164, 0, 7, 4]
abbrev dktX12_followsFrom_5 : List UInt8 := dkwX12_followsFrom_5 ++ dktX12_followsFrom_6
def dkwX12_followsFrom_4 : List UInt8 := [180, 0, 18, 5, 160, 0, 44, 43, 180, 0, 18, 5, 160, 0, 14, 43, 180, 0, 21, 42, 180, 0, 21]
abbrev dktX12_followsFrom_4 : List UInt8 := dkwX12_followsFrom_4 ++ dktX12_followsFrom_5
def dkwX12_followsFrom_3 : List UInt8 := [180, 0, 18, 154, 0, 18, 43, 180, 0, 21, 42, 180, 0, 21, 162, 0, 7, 4, 167, 0, 4, 3, 62, 42]
abbrev dktX12_followsFrom_3 : List UInt8 := dkwX12_followsFrom_3 ++ dktX12_followsFrom_4
def dkwX12_followsFrom_2 : List UInt8 := [160, 0, 44, 43, 180, 0, 18, 4, 160, 0, 14, 43, 180, 0, 21, 42, 180, 0, 21, 164, 0, 21, 43]
abbrev dktX12_followsFrom_2 : List UInt8 := dkwX12_followsFrom_2 ++ dktX12_followsFrom_3
def dkwX12_followsFrom_1 : List UInt8 := [42, 180, 0, 21, 43, 180, 0, 21, 160, 0, 7, 4, 167, 0, 4, 3, 61, 42, 180, 0, 18, 4]
abbrev dktX12_followsFrom_1 : List UInt8 := dkwX12_followsFrom_1 ++ dktX12_followsFrom_2
def dkwX12_followsFrom_0 : List UInt8 := [42, 180, 0, 15, 43, 180, 0, 15, 159, 0, 5, 3, 172, 42, 180, 0, 18, 43, 180, 0, 18, 160, 0, 18]
abbrev dktX12_followsFrom_0 : List UInt8 := dkwX12_followsFrom_0 ++ dktX12_followsFrom_1
theorem dksX12_followsFrom_0 : cX12_followsFrom.data.toList.drop 0 = dktX12_followsFrom_0 := by decide +kernel
theorem dksX12_followsFrom_1 : cX12_followsFrom.data.toList.drop 24 = dktX12_followsFrom_1 := dk_seg dksX12_followsFrom_0 24 rfl rfl
theorem dksX12_followsFrom_2 : cX12_followsFrom.data.toList.drop 46 = dktX12_followsFrom_2 := dk_seg dksX12_followsFrom_1 22 rfl rfl
theorem dksX12_followsFrom_3 : cX12_followsFrom.data.toList.drop 69 = dktX12_followsFrom_3 := dk_seg dksX12_followsFrom_2 23 rfl rfl
theorem dksX12_followsFrom_4 : cX12_followsFrom.data.toList.drop 93 = dktX12_followsFrom_4 := dk_seg dksX12_followsFrom_3 24 rfl rfl
theorem dksX12_followsFrom_5 : cX12_followsFrom.data.toList.drop 116 = dktX12_followsFrom_5 := dk_seg dksX12_followsFrom_4 23 rfl rfl
theorem dksX12_followsFrom_6 : cX12_followsFrom.data.toList.drop 138 = dktX12_followsFrom_6 := dk_seg dksX12_followsFrom_5 22 rfl rfl
theorem dksX12_followsFrom_7 : cX12_followsFrom.data.toList.drop 162 = dktX12_followsFrom_7 := dk_seg dksX12_followsFrom_6 24 rfl rfl
theorem dX12_followsFrom_0 : decode cX12_followsFrom 0 = .ok (.aload_n 0, 1) := dk_42 (dk_at dksX12_followsFrom_0 0 rfl rfl)
theorem dX12_followsFrom_1 : decode cX12_followsFrom 1 = .ok (.getfield 15, 3) := dk_180 0 15 (dk_at dksX12_followsFrom_0 1 rfl rfl)
theorem dX12_followsFrom_4 : decode cX12_followsFrom 4 = .ok (.aload_n 1, 1) := dk_43 (dk_at dksX12_followsFrom_0 4 rfl rfl)
theorem dX12_followsFrom_5 : decode cX12_followsFrom 5 = .ok (.getfield 15, 3) := dk_180 0 15 (dk_at dksX12_followsFrom_0 5 rfl rfl)
theorem dX12_followsFrom_8 : decode cX12_followsFrom 8 = .ok (.if_icmp .eq 5, 3) := dk_159 0 5 (dk_at dksX12_followsFrom_0 8 rfl rfl)
theorem dX12_followsFrom_11 : decode cX12_followsFrom 11 = .ok (.iconst 0, 1) := dk_3 (dk_at dksX12_followsFrom_0 11 rfl rfl)
theorem dX12_followsFrom_12 : decode cX12_followsFrom 12 = .ok (.ireturn, 1) := dk_172 (dk_at dksX12_followsFrom_0 12 rfl rfl)
theorem dX12_followsFrom_13 : decode cX12_followsFrom 13 = .ok (.aload_n 0, 1) := dk_42 (dk_at dksX12_followsFrom_0 13 rfl rfl)
theorem dX12_followsFrom_14 : decode cX12_followsFrom 14 = .ok (.getfield 18, 3) := dk_180 0 18 (dk_at dksX12_followsFrom_0 14 rfl rfl)
theorem dX12_followsFrom_17 : decode cX12_followsFrom 17 = .ok (.aload_n 1, 1) := dk_43 (dk_at dksX12_followsFrom_0 17 rfl rfl)
theorem dX12_followsFrom_18 : decode cX12_followsFrom 18 = .ok (.getfield 18, 3) := dk_180 0 18 (dk_at dksX12_followsFrom_0 18 rfl rfl)
theorem dX12_followsFrom_21 : decode cX12_followsFrom 21 = .ok (.if_icmp .ne 18, 3) := dk_160 0 18 (dk_at dksX12_followsFrom_0 21 rfl rfl)
theorem dX12_followsFrom_24 : decode cX12_followsFrom 24 = .ok (.aload_n 0, 1) := dk_42 (dk_at dksX12_followsFrom_1 0 rfl rfl)
theorem dX12_followsFrom_25 : decode cX12_followsFrom 25 = .ok (.getfield 21, 3) := dk_180 0 21 (dk_at dksX12_followsFrom_1 1 rfl rfl)
theorem dX12_followsFrom_28 : decode cX12_followsFrom 28 = .ok (.aload_n 1, 1) := dk_43 (dk_at dksX12_followsFrom_1 4 rfl rfl)
theorem dX12_followsFrom_29 : decode cX12_followsFrom 29 = .ok (.getfield 21, 3) := dk_180 0 21 (dk_at dksX12_followsFrom_1 5 rfl rfl)
theorem dX12_followsFrom_32 : decode cX12_followsFrom 32 = .ok (.if_icmp .ne 7, 3) := dk_160 0 7 (dk_at dksX12_followsFrom_1 8 rfl rfl)
theorem dX12_followsFrom_35 : decode cX12_followsFrom 35 = .ok (.iconst 1, 1) := dk_4 (dk_at dksX12_followsFrom_1 11 rfl rfl)
theorem dX12_followsFrom_36 : decode cX12_followsFrom 36 = .ok (.goto 4, 3) := dk_167 0 4 (dk_at dksX12_followsFrom_1 12 rfl rfl)
theorem dX12_followsFrom_39 : decode cX12_followsFrom 39 = .ok (.iconst 0, 1) := dk_3 (dk_at dksX12_followsFrom_1 15 rfl rfl)
theorem dX12_followsFrom_40 : decode cX12_followsFrom 40 = .ok (.istore_n 2, 1) := dk_61 (dk_at dksX12_followsFrom_1 16 rfl rfl)
theorem dX12_followsFrom_41 : decode cX12_followsFrom 41 = .ok (.aload_n 0, 1) := dk_42 (dk_at dksX12_followsFrom_1 17 rfl rfl)
theorem dX12_followsFrom_42 : decode cX12_followsFrom 42 = .ok (.getfield 18, 3) := dk_180 0 18 (dk_at dksX12_followsFrom_1 18 rfl rfl)
theorem dX12_followsFrom_45 : decode cX12_followsFrom 45 = .ok (.iconst 1, 1) := dk_4 (dk_at dksX12_followsFrom_1 21 rfl rfl)
theorem dX12_followsFrom_46 : decode cX12_followsFrom 46 = .ok (.if_icmp .ne 44, 3) := dk_160 0 44 (dk_at dksX12_followsFrom_2 0 rfl rfl)
theorem dX12_followsFrom_49 : decode cX12_followsFrom 49 = .ok (.aload_n 1, 1) := dk_43 (dk_at dksX12_followsFrom_2 3 rfl rfl)
theorem dX12_followsFrom_50 : decode cX12_followsFrom 50 = .ok (.getfield 18, 3) := dk_180 0 18 (dk_at dksX12_followsFrom_2 4 rfl rfl)
theorem dX12_followsFrom_53 : decode cX12_followsFrom 53 = .ok (.iconst 1, 1) := dk_4 (dk_at dksX12_followsFrom_2 7 rfl rfl)
theorem dX12_followsFrom_54 : decode cX12_followsFrom 54 = .ok (.if_icmp .ne 14, 3) := dk_160 0 14 (dk_at dksX12_followsFrom_2 8 rfl rfl)
theorem dX12_followsFrom_57 : decode cX12_followsFrom 57 = .ok (.aload_n 1, 1) := dk_43 (dk_at dksX12_followsFrom_2 11 rfl rfl)
theorem dX12_followsFrom_58 : decode cX12_followsFrom 58 = .ok (.getfield 21, 3) := dk_180 0 21 (dk_at dksX12_followsFrom_2 12 rfl rfl)
theorem dX12_followsFrom_61 : decode cX12_followsFrom 61 = .ok (.aload_n 0, 1) := dk_42 (dk_at dksX12_followsFrom_2 15 rfl rfl)
theorem dX12_followsFrom_62 : decode cX12_followsFrom 62 = .ok (.getfield 21, 3) := dk_180 0 21 (dk_at dksX12_followsFrom_2 16 rfl rfl)
theorem dX12_followsFrom_65 : decode cX12_followsFrom 65 = .ok (.if_icmp .le 21, 3) := dk_164 0 21 (dk_at dksX12_followsFrom_2 19 rfl rfl)
theorem dX12_followsFrom_68 : decode cX12_followsFrom 68 = .ok (.aload_n 1, 1) := dk_43 (dk_at dksX12_followsFrom_2 22 rfl rfl)
theorem dX12_followsFrom_69 : decode cX12_followsFrom 69 = .ok (.getfield 18, 3) := dk_180 0 18 (dk_at dksX12_followsFrom_3 0 rfl rfl)
theorem dX12_followsFrom_72 : decode cX12_followsFrom 72 = .ok (.ifCond .ne 18, 3) := dk_154 0 18 (dk_at dksX12_followsFrom_3 3 rfl rfl)
theorem dX12_followsFrom_75 : decode cX12_followsFrom 75 = .ok (.aload_n 1, 1) := dk_43 (dk_at dksX12_followsFrom_3 6 rfl rfl)
theorem dX12_followsFrom_76 : decode cX12_followsFrom 76 = .ok (.getfield 21, 3) := dk_180 0 21 (dk_at dksX12_followsFrom_3 7 rfl rfl)
theorem dX12_followsFrom_79 : decode cX12_followsFrom 79 = .ok (.aload_n 0, 1) := dk_42 (dk_at dksX12_followsFrom_3 10 rfl rfl)
theorem dX12_followsFrom_80 : decode cX12_followsFrom 80 = .ok (.getfield 21, 3) := dk_180 0 21 (dk_at dksX12_followsFrom_3 11 rfl rfl)
theorem dX12_followsFrom_83 : decode cX12_followsFrom 83 = .ok (.if_icmp .ge 7, 3) := dk_162 0 7 (dk_at dksX12_followsFrom_3 14 rfl rfl)
theorem dX12_followsFrom_86 : decode cX12_followsFrom 86 = .ok (.iconst 1, 1) := dk_4 (dk_at dksX12_followsFrom_3 17 rfl rfl)
theorem dX12_followsFrom_87 : decode cX12_followsFrom 87 = .ok (.goto 4, 3) := dk_167 0 4 (dk_at dksX12_followsFrom_3 18 rfl rfl)
theorem dX12_followsFrom_90 : decode cX12_followsFrom 90 = .ok (.iconst 0, 1) := dk_3 (dk_at dksX12_followsFrom_3 21 rfl rfl)
theorem dX12_followsFrom_91 : decode cX12_followsFrom 91 = .ok (.istore_n 3, 1) := dk_62 (dk_at dksX12_followsFrom_3 22 rfl rfl)
theorem dX12_followsFrom_92 : decode cX12_followsFrom 92 = .ok (.aload_n 0, 1) := dk_42 (dk_at dksX12_followsFrom_3 23 rfl rfl)
theorem dX12_followsFrom_93 : decode cX12_followsFrom 93 = .ok (.getfield 18, 3) := dk_180 0 18 (dk_at dksX12_followsFrom_4 0 rfl rfl)
theorem dX12_followsFrom_96 : decode cX12_followsFrom 96 = .ok (.iconst 2, 1) := dk_5 (dk_at dksX12_followsFrom_4 3 rfl rfl)
theorem dX12_followsFrom_97 : decode cX12_followsFrom 97 = .ok (.if_icmp .ne 44, 3) := dk_160 0 44 (dk_at dksX12_followsFrom_4 4 rfl rfl)
theorem dX12_followsFrom_100 : decode cX12_followsFrom 100 = .ok (.aload_n 1, 1) := dk_43 (dk_at dksX12_followsFrom_4 7 rfl rfl)
theorem dX12_followsFrom_101 : decode cX12_followsFrom 101 = .ok (.getfield 18, 3) := dk_180 0 18 (dk_at dksX12_followsFrom_4 8 rfl rfl)
theorem dX12_followsFrom_104 : decode cX12_followsFrom 104 = .ok (.iconst 2, 1) := dk_5 (dk_at dksX12_followsFrom_4 11 rfl rfl)
theorem dX12_followsFrom_105 : decode cX12_followsFrom 105 = .ok (.if_icmp .ne 14, 3) := dk_160 0 14 (dk_at dksX12_followsFrom_4 12 rfl rfl)
theorem dX12_followsFrom_108 : decode cX12_followsFrom 108 = .ok (.aload_n 1, 1) := dk_43 (dk_at dksX12_followsFrom_4 15 rfl rfl)
theorem dX12_followsFrom_109 : decode cX12_followsFrom 109 = .ok (.getfield 21, 3) := dk_180 0 21 (dk_at dksX12_followsFrom_4 16 rfl rfl)
theorem dX12_followsFrom_112 : decode cX12_followsFrom 112 = .ok (.aload_n 0, 1) := dk_42 (dk_at dksX12_followsFrom_4 19 rfl rfl)
theorem dX12_followsFrom_113 : decode cX12_followsFrom 113 = .ok (.getfield 21, 3) := dk_180 0 21 (dk_at dksX12_followsFrom_4 20 rfl rfl)
theorem dX12_followsFrom_116 : decode cX12_followsFrom 116 = .ok (.if_icmp .ge 21, 3) := dk_162 0 21 (dk_at dksX12_followsFrom_5 0 rfl rfl)
theorem dX12_followsFrom_119 : decode cX12_followsFrom 119 = .ok (.aload_n 1, 1) := dk_43 (dk_at dksX12_followsFrom_5 3 rfl rfl)
theorem dX12_followsFrom_120 : decode cX12_followsFrom 120 = .ok (.getfield 18, 3) := dk_180 0 18 (dk_at dksX12_followsFrom_5 4 rfl rfl)
theorem dX12_followsFrom_123 : decode cX12_followsFrom 123 = .ok (.ifCond .ne 18, 3) := dk_154 0 18 (dk_at dksX12_followsFrom_5 7 rfl rfl)
theorem dX12_followsFrom_126 : decode cX12_followsFrom 126 = .ok (.aload_n 1, 1) := dk_43 (dk_at dksX12_followsFrom_5 10 rfl rfl)
theorem dX12_followsFrom_127 : decode cX12_followsFrom 127 = .ok (.getfield 21, 3) := dk_180 0 21 (dk_at dksX12_followsFrom_5 11 rfl rfl)
theorem dX12_followsFrom_130 : decode cX12_followsFrom 130 = .ok (.aload_n 0, 1) := dk_42 (dk_at dksX12_followsFrom_5 14 rfl rfl)
theorem dX12_followsFrom_131 : decode cX12_followsFrom 131 = .ok (.getfield 21, 3) := dk_180 0 21 (dk_at dksX12_followsFrom_5 15 rfl rfl)
theorem dX12_followsFrom_134 : decode cX12_followsFrom 134 = .ok (.if_icmp .le 7, 3) := dk_164 0 7 (dk_at dksX12_followsFrom_5 18 rfl rfl)
theorem dX12_followsFrom_137 : decode cX12_followsFrom 137 = .ok (.iconst 1, 1) := dk_4 (dk_at dksX12_followsFrom_5 21 rfl rfl)
theorem dX12_followsFrom_138 : decode cX12_followsFrom 138 = .ok (.goto 4, 3) := dk_167 0 4 (dk_at dksX12_followsFrom_6 0 rfl rfl)
theorem dX12_followsFrom_141 : decode cX12_followsFrom 141 = .ok (.iconst 0, 1) := dk_3 (dk_at dksX12_followsFrom_6 3 rfl rfl)
theorem dX12_followsFrom_142 : decode cX12_followsFrom 142 = .ok (.istore 4, 2) := dk_54 4 (dk_at dksX12_followsFrom_6 4 rfl rfl)
theorem dX12_followsFrom_144 : decode cX12_followsFrom 144 = .ok (.iload_n 2, 1) := dk_28 (dk_at dksX12_followsFrom_6 6 rfl rfl)
theorem dX12_followsFrom_145 : decode cX12_followsFrom 145 = .ok (.ifCond .ne 12, 3) := dk_154 0 12 (dk_at dksX12_followsFrom_6 7 rfl rfl)
theorem dX12_followsFrom_148 : decode cX12_followsFrom 148 = .ok (.iload_n 3, 1) := dk_29 (dk_at dksX12_followsFrom_6 10 rfl rfl)
theorem dX12_followsFrom_149 : decode cX12_followsFrom 149 = .ok (.ifCond .ne 8, 3) := dk_154 0 8 (dk_at dksX12_followsFrom_6 11 rfl rfl)
theorem dX12_followsFrom_152 : decode cX12_followsFrom 152 = .ok (.iload 4, 2) := dk_21 4 (dk_at dksX12_followsFrom_6 14 rfl rfl)
theorem dX12_followsFrom_154 : decode cX12_followsFrom 154 = .ok (.ifCond .eq 7, 3) := dk_153 0 7 (dk_at dksX12_followsFrom_6 16 rfl rfl)
theorem dX12_followsFrom_157 : decode cX12_followsFrom 157 = .ok (.iconst 1, 1) := dk_4 (dk_at dksX12_followsFrom_6 19 rfl rfl)
theorem dX12_followsFrom_158 : decode cX12_followsFrom 158 = .ok (.goto 4, 3) := dk_167 0 4 (dk_at dksX12_followsFrom_6 20 rfl rfl)
theorem dX12_followsFrom_161 : decode cX12_followsFrom 161 = .ok (.iconst 0, 1) := dk_3 (dk_at dksX12_followsFrom_6 23 rfl rfl)
theorem dX12_followsFrom_162 : decode cX12_followsFrom 162 = .ok (.ireturn, 1) := dk_172 (dk_at dksX12_followsFrom_7 0 rfl rfl)
abbrev cX12_holdsFor : ByteArray := prog_3_method_2_code
def yX12_holdsFor : MethodName := ⟨RX12, "holdsFor", "(LQueryHarbor$Row;)Z"⟩
def dkwX12_holdsFor_5 : List UInt8 := [17, 19, 137, 160, 0, 7, 4, 167, 0, 4, 3, 172]
abbrev dktX12_holdsFor_5 : List UInt8 := dkwX12_holdsFor_5 ++ []
def dkwX12_holdsFor_4 : List UInt8 := [164, 0, 7, 4, 167, 0, 4, 3, 172, 28, 17, 19, 136, 160, 0, 7, 4, 167, 0, 4, 3, 172, 28]
abbrev dktX12_holdsFor_4 : List UInt8 := dkwX12_holdsFor_4 ++ dktX12_holdsFor_5
def dkwX12_holdsFor_3 : List UInt8 := [180, 0, 21, 162, 0, 7, 4, 167, 0, 4, 3, 172, 28, 184, 0, 30, 153, 0, 15, 28, 42, 180, 0, 21]
abbrev dktX12_holdsFor_3 : List UInt8 := dkwX12_holdsFor_3 ++ dktX12_holdsFor_4
def dkwX12_holdsFor_2 : List UInt8 := [28, 42, 180, 0, 21, 160, 0, 7, 4, 167, 0, 4, 3, 172, 28, 184, 0, 30, 153, 0, 15, 28, 42]
abbrev dktX12_holdsFor_2 : List UInt8 := dkwX12_holdsFor_2 ++ dktX12_holdsFor_3
def dkwX12_holdsFor_1 : List UInt8 := [170, 0, 0, 0, 0, 99, 0, 0, 0, 0, 0, 0, 0, 3, 0, 0, 0, 30, 0, 0, 0, 44, 0, 0, 0, 65, 0, 0, 0, 86]
abbrev dktX12_holdsFor_1 : List UInt8 := dkwX12_holdsFor_1 ++ dktX12_holdsFor_2
def dkwX12_holdsFor_0 : List UInt8 := [43, 180, 0, 24, 42, 180, 0, 15, 46, 61, 42, 180, 0, 18]
abbrev dktX12_holdsFor_0 : List UInt8 := dkwX12_holdsFor_0 ++ dktX12_holdsFor_1
theorem dksX12_holdsFor_0 : cX12_holdsFor.data.toList.drop 0 = dktX12_holdsFor_0 := by decide +kernel
theorem dksX12_holdsFor_1 : cX12_holdsFor.data.toList.drop 14 = dktX12_holdsFor_1 := dk_seg dksX12_holdsFor_0 14 rfl rfl
theorem dksX12_holdsFor_2 : cX12_holdsFor.data.toList.drop 44 = dktX12_holdsFor_2 := dk_seg dksX12_holdsFor_1 30 rfl rfl
theorem dksX12_holdsFor_3 : cX12_holdsFor.data.toList.drop 67 = dktX12_holdsFor_3 := dk_seg dksX12_holdsFor_2 23 rfl rfl
theorem dksX12_holdsFor_4 : cX12_holdsFor.data.toList.drop 91 = dktX12_holdsFor_4 := dk_seg dksX12_holdsFor_3 24 rfl rfl
theorem dksX12_holdsFor_5 : cX12_holdsFor.data.toList.drop 114 = dktX12_holdsFor_5 := dk_seg dksX12_holdsFor_4 23 rfl rfl
theorem dX12_holdsFor_0 : decode cX12_holdsFor 0 = .ok (.aload_n 1, 1) := dk_43 (dk_at dksX12_holdsFor_0 0 rfl rfl)
theorem dX12_holdsFor_1 : decode cX12_holdsFor 1 = .ok (.getfield 24, 3) := dk_180 0 24 (dk_at dksX12_holdsFor_0 1 rfl rfl)
theorem dX12_holdsFor_4 : decode cX12_holdsFor 4 = .ok (.aload_n 0, 1) := dk_42 (dk_at dksX12_holdsFor_0 4 rfl rfl)
theorem dX12_holdsFor_5 : decode cX12_holdsFor 5 = .ok (.getfield 15, 3) := dk_180 0 15 (dk_at dksX12_holdsFor_0 5 rfl rfl)
theorem dX12_holdsFor_8 : decode cX12_holdsFor 8 = .ok (.iaload, 1) := dk_46 (dk_at dksX12_holdsFor_0 8 rfl rfl)
theorem dX12_holdsFor_9 : decode cX12_holdsFor 9 = .ok (.istore_n 2, 1) := dk_61 (dk_at dksX12_holdsFor_0 9 rfl rfl)
theorem dX12_holdsFor_10 : decode cX12_holdsFor 10 = .ok (.aload_n 0, 1) := dk_42 (dk_at dksX12_holdsFor_0 10 rfl rfl)
theorem dX12_holdsFor_11 : decode cX12_holdsFor 11 = .ok (.getfield 18, 3) := dk_180 0 18 (dk_at dksX12_holdsFor_0 11 rfl rfl)
theorem dX12_holdsFor_14 : decode cX12_holdsFor 14 = .ok (.tableswitch 99 0 3 #[30, 44, 65, 86], 30) := by decide +kernel
theorem dX12_holdsFor_44 : decode cX12_holdsFor 44 = .ok (.iload_n 2, 1) := dk_28 (dk_at dksX12_holdsFor_2 0 rfl rfl)
theorem dX12_holdsFor_45 : decode cX12_holdsFor 45 = .ok (.aload_n 0, 1) := dk_42 (dk_at dksX12_holdsFor_2 1 rfl rfl)
theorem dX12_holdsFor_46 : decode cX12_holdsFor 46 = .ok (.getfield 21, 3) := dk_180 0 21 (dk_at dksX12_holdsFor_2 2 rfl rfl)
theorem dX12_holdsFor_49 : decode cX12_holdsFor 49 = .ok (.if_icmp .ne 7, 3) := dk_160 0 7 (dk_at dksX12_holdsFor_2 5 rfl rfl)
theorem dX12_holdsFor_52 : decode cX12_holdsFor 52 = .ok (.iconst 1, 1) := dk_4 (dk_at dksX12_holdsFor_2 8 rfl rfl)
theorem dX12_holdsFor_53 : decode cX12_holdsFor 53 = .ok (.goto 4, 3) := dk_167 0 4 (dk_at dksX12_holdsFor_2 9 rfl rfl)
theorem dX12_holdsFor_56 : decode cX12_holdsFor 56 = .ok (.iconst 0, 1) := dk_3 (dk_at dksX12_holdsFor_2 12 rfl rfl)
theorem dX12_holdsFor_57 : decode cX12_holdsFor 57 = .ok (.ireturn, 1) := dk_172 (dk_at dksX12_holdsFor_2 13 rfl rfl)
theorem dX12_holdsFor_58 : decode cX12_holdsFor 58 = .ok (.iload_n 2, 1) := dk_28 (dk_at dksX12_holdsFor_2 14 rfl rfl)
theorem dX12_holdsFor_59 : decode cX12_holdsFor 59 = .ok (.invokestatic 30, 3) := dk_184 0 30 (dk_at dksX12_holdsFor_2 15 rfl rfl)
theorem dX12_holdsFor_62 : decode cX12_holdsFor 62 = .ok (.ifCond .eq 15, 3) := dk_153 0 15 (dk_at dksX12_holdsFor_2 18 rfl rfl)
theorem dX12_holdsFor_65 : decode cX12_holdsFor 65 = .ok (.iload_n 2, 1) := dk_28 (dk_at dksX12_holdsFor_2 21 rfl rfl)
theorem dX12_holdsFor_66 : decode cX12_holdsFor 66 = .ok (.aload_n 0, 1) := dk_42 (dk_at dksX12_holdsFor_2 22 rfl rfl)
theorem dX12_holdsFor_67 : decode cX12_holdsFor 67 = .ok (.getfield 21, 3) := dk_180 0 21 (dk_at dksX12_holdsFor_3 0 rfl rfl)
theorem dX12_holdsFor_70 : decode cX12_holdsFor 70 = .ok (.if_icmp .ge 7, 3) := dk_162 0 7 (dk_at dksX12_holdsFor_3 3 rfl rfl)
theorem dX12_holdsFor_73 : decode cX12_holdsFor 73 = .ok (.iconst 1, 1) := dk_4 (dk_at dksX12_holdsFor_3 6 rfl rfl)
theorem dX12_holdsFor_74 : decode cX12_holdsFor 74 = .ok (.goto 4, 3) := dk_167 0 4 (dk_at dksX12_holdsFor_3 7 rfl rfl)
theorem dX12_holdsFor_77 : decode cX12_holdsFor 77 = .ok (.iconst 0, 1) := dk_3 (dk_at dksX12_holdsFor_3 10 rfl rfl)
theorem dX12_holdsFor_78 : decode cX12_holdsFor 78 = .ok (.ireturn, 1) := dk_172 (dk_at dksX12_holdsFor_3 11 rfl rfl)
theorem dX12_holdsFor_79 : decode cX12_holdsFor 79 = .ok (.iload_n 2, 1) := dk_28 (dk_at dksX12_holdsFor_3 12 rfl rfl)
theorem dX12_holdsFor_80 : decode cX12_holdsFor 80 = .ok (.invokestatic 30, 3) := dk_184 0 30 (dk_at dksX12_holdsFor_3 13 rfl rfl)
theorem dX12_holdsFor_83 : decode cX12_holdsFor 83 = .ok (.ifCond .eq 15, 3) := dk_153 0 15 (dk_at dksX12_holdsFor_3 16 rfl rfl)
theorem dX12_holdsFor_86 : decode cX12_holdsFor 86 = .ok (.iload_n 2, 1) := dk_28 (dk_at dksX12_holdsFor_3 19 rfl rfl)
theorem dX12_holdsFor_87 : decode cX12_holdsFor 87 = .ok (.aload_n 0, 1) := dk_42 (dk_at dksX12_holdsFor_3 20 rfl rfl)
theorem dX12_holdsFor_88 : decode cX12_holdsFor 88 = .ok (.getfield 21, 3) := dk_180 0 21 (dk_at dksX12_holdsFor_3 21 rfl rfl)
theorem dX12_holdsFor_91 : decode cX12_holdsFor 91 = .ok (.if_icmp .le 7, 3) := dk_164 0 7 (dk_at dksX12_holdsFor_4 0 rfl rfl)
theorem dX12_holdsFor_94 : decode cX12_holdsFor 94 = .ok (.iconst 1, 1) := dk_4 (dk_at dksX12_holdsFor_4 3 rfl rfl)
theorem dX12_holdsFor_95 : decode cX12_holdsFor 95 = .ok (.goto 4, 3) := dk_167 0 4 (dk_at dksX12_holdsFor_4 4 rfl rfl)
theorem dX12_holdsFor_98 : decode cX12_holdsFor 98 = .ok (.iconst 0, 1) := dk_3 (dk_at dksX12_holdsFor_4 7 rfl rfl)
theorem dX12_holdsFor_99 : decode cX12_holdsFor 99 = .ok (.ireturn, 1) := dk_172 (dk_at dksX12_holdsFor_4 8 rfl rfl)
theorem dX12_holdsFor_100 : decode cX12_holdsFor 100 = .ok (.iload_n 2, 1) := dk_28 (dk_at dksX12_holdsFor_4 9 rfl rfl)
theorem dX12_holdsFor_101 : decode cX12_holdsFor 101 = .ok (.sipush 5000, 3) := dk_17 19 136 (dk_at dksX12_holdsFor_4 10 rfl rfl)
theorem dX12_holdsFor_104 : decode cX12_holdsFor 104 = .ok (.if_icmp .ne 7, 3) := dk_160 0 7 (dk_at dksX12_holdsFor_4 13 rfl rfl)
theorem dX12_holdsFor_107 : decode cX12_holdsFor 107 = .ok (.iconst 1, 1) := dk_4 (dk_at dksX12_holdsFor_4 16 rfl rfl)
theorem dX12_holdsFor_108 : decode cX12_holdsFor 108 = .ok (.goto 4, 3) := dk_167 0 4 (dk_at dksX12_holdsFor_4 17 rfl rfl)
theorem dX12_holdsFor_111 : decode cX12_holdsFor 111 = .ok (.iconst 0, 1) := dk_3 (dk_at dksX12_holdsFor_4 20 rfl rfl)
theorem dX12_holdsFor_112 : decode cX12_holdsFor 112 = .ok (.ireturn, 1) := dk_172 (dk_at dksX12_holdsFor_4 21 rfl rfl)
theorem dX12_holdsFor_113 : decode cX12_holdsFor 113 = .ok (.iload_n 2, 1) := dk_28 (dk_at dksX12_holdsFor_4 22 rfl rfl)
theorem dX12_holdsFor_114 : decode cX12_holdsFor 114 = .ok (.sipush 5001, 3) := dk_17 19 137 (dk_at dksX12_holdsFor_5 0 rfl rfl)
theorem dX12_holdsFor_117 : decode cX12_holdsFor 117 = .ok (.if_icmp .ne 7, 3) := dk_160 0 7 (dk_at dksX12_holdsFor_5 3 rfl rfl)
theorem dX12_holdsFor_120 : decode cX12_holdsFor 120 = .ok (.iconst 1, 1) := dk_4 (dk_at dksX12_holdsFor_5 6 rfl rfl)
theorem dX12_holdsFor_121 : decode cX12_holdsFor 121 = .ok (.goto 4, 3) := dk_167 0 4 (dk_at dksX12_holdsFor_5 7 rfl rfl)
theorem dX12_holdsFor_124 : decode cX12_holdsFor 124 = .ok (.iconst 0, 1) := dk_3 (dk_at dksX12_holdsFor_5 10 rfl rfl)
theorem dX12_holdsFor_125 : decode cX12_holdsFor 125 = .ok (.ireturn, 1) := dk_172 (dk_at dksX12_holdsFor_5 11 rfl rfl)
theorem q120 : (Jvm.Cond.initialized "QueryHarbor$Condition") ∈ lw_all := lw_g (lw_at lw_m1 36 rfl) rfl
theorem q644 : (Jvm.Cond.fieldLink "QueryHarbor$Condition" (24 : Nat) "QueryHarbor$Row" "cells" "[I") ∈ lw_all := lw_g (lw_at lw_m3 80 rfl) rfl
theorem q924 : (Jvm.Cond.selects "QueryHarbor$Condition" ({ cls := "java/lang/Object", name := "getClass", desc := "()Ljava/lang/Class;" } : Jvm.MethodName) ({ cls := "java/lang/Object", name := "getClass", desc := "()Ljava/lang/Class;" } : Jvm.MethodName)) ∈ lw_all := lw_g (lw_at lw_m4 120 rfl) rfl
theorem q1193 : (Jvm.Cond.instantiable "QueryHarbor$Condition" (4 : Nat)) ∈ lw_all := lw_g (lw_at lw_m5 149 rfl) rfl
theorem q1195 : (Jvm.Cond.instanceMethod ({ cls := "QueryHarbor$Condition", name := "<init>", desc := "(IIII)V" } : Jvm.MethodName)) ∈ lw_all := lw_g (lw_at lw_m5 151 rfl) rfl
theorem q1196 : (Jvm.Cond.code ({ cls := "QueryHarbor$Condition", name := "<init>", desc := "(IIII)V" } : Jvm.MethodName) prog_3_method_1_code (5 : Nat) (Option.none : Option Jvm.ClassFile.FieldType)) ∈ lw_all := lw_g (lw_at lw_m5 152 rfl) rfl
theorem q1197 : (Jvm.Cond.methodLink "QueryHarbor$Condition" (3 : Nat) ({ cls := "java/lang/Object", name := "<init>", desc := "()V" } : Jvm.MethodName)) ∈ lw_all := lw_g (lw_at lw_m5 153 rfl) rfl
theorem q1198 : (Jvm.Cond.fieldLink "QueryHarbor$Condition" (9 : Nat) "QueryHarbor$Condition" "seat" "I") ∈ lw_all := lw_g (lw_at lw_m5 154 rfl) rfl
theorem q1200 : (Jvm.Cond.fieldLink "QueryHarbor$Condition" (15 : Nat) "QueryHarbor$Condition" "column" "I") ∈ lw_all := lw_g (lw_at lw_m5 156 rfl) rfl
theorem q1202 : (Jvm.Cond.fieldLink "QueryHarbor$Condition" (18 : Nat) "QueryHarbor$Condition" "kind" "I") ∈ lw_all := lw_g (lw_at lw_m5 158 rfl) rfl
theorem q1204 : (Jvm.Cond.fieldLink "QueryHarbor$Condition" (21 : Nat) "QueryHarbor$Condition" "number" "I") ∈ lw_all := lw_g (lw_at lw_m5 160 rfl) rfl
theorem q1205 : (Jvm.Cond.laysFinal "QueryHarbor$Condition" "QueryHarbor$Condition" "seat" "I") ∈ lw_all := lw_g (lw_at lw_m5 161 rfl) rfl
theorem q1206 : (Jvm.Cond.soleField "QueryHarbor$Condition" "seat") ∈ lw_all := lw_g (lw_at lw_m5 162 rfl) rfl
theorem q1207 : (Jvm.Cond.laysFinal "QueryHarbor$Condition" "QueryHarbor$Condition" "column" "I") ∈ lw_all := lw_g (lw_at lw_m5 163 rfl) rfl
theorem q1208 : (Jvm.Cond.soleField "QueryHarbor$Condition" "column") ∈ lw_all := lw_g (lw_at lw_m5 164 rfl) rfl
theorem q1209 : (Jvm.Cond.laysFinal "QueryHarbor$Condition" "QueryHarbor$Condition" "kind" "I") ∈ lw_all := lw_g (lw_at lw_m5 165 rfl) rfl
theorem q1210 : (Jvm.Cond.soleField "QueryHarbor$Condition" "kind") ∈ lw_all := lw_g (lw_at lw_m5 166 rfl) rfl
theorem q1211 : (Jvm.Cond.laysFinal "QueryHarbor$Condition" "QueryHarbor$Condition" "number" "I") ∈ lw_all := lw_g (lw_at lw_m5 167 rfl) rfl
theorem q1212 : (Jvm.Cond.soleField "QueryHarbor$Condition" "number") ∈ lw_all := lw_g (lw_at lw_m5 168 rfl) rfl
theorem q1213 : (Jvm.Cond.superclass "QueryHarbor$Condition" "java/lang/Object") ∈ lw_all := lw_g (lw_at lw_m5 169 rfl) rfl
theorem q1355 : (Jvm.Cond.instanceMethod ({ cls := "QueryHarbor$Condition", name := "followsFrom", desc := "(LQueryHarbor$Condition;)Z" } : Jvm.MethodName)) ∈ lw_all := lw_g (lw_at lw_m6 71 rfl) rfl
theorem q1356 : (Jvm.Cond.selects "QueryHarbor$Condition" ({ cls := "QueryHarbor$Condition", name := "followsFrom", desc := "(LQueryHarbor$Condition;)Z" } : Jvm.MethodName) ({ cls := "QueryHarbor$Condition", name := "followsFrom", desc := "(LQueryHarbor$Condition;)Z" } : Jvm.MethodName)) ∈ lw_all := lw_g (lw_at lw_m6 72 rfl) rfl
theorem q1357 : (Jvm.Cond.code ({ cls := "QueryHarbor$Condition", name := "followsFrom", desc := "(LQueryHarbor$Condition;)Z" } : Jvm.MethodName) prog_3_method_3_code (5 : Nat) (Option.some Jvm.ClassFile.FieldType.boolean)) ∈ lw_all := lw_g (lw_at lw_m6 73 rfl) rfl
theorem q1469 : (Jvm.Cond.instanceMethod ({ cls := "QueryHarbor$Condition", name := "holdsFor", desc := "(LQueryHarbor$Row;)Z" } : Jvm.MethodName)) ∈ lw_all := lw_g (lw_at lw_m6 185 rfl) rfl
theorem q1470 : (Jvm.Cond.selects "QueryHarbor$Condition" ({ cls := "QueryHarbor$Condition", name := "holdsFor", desc := "(LQueryHarbor$Row;)Z" } : Jvm.MethodName) ({ cls := "QueryHarbor$Condition", name := "holdsFor", desc := "(LQueryHarbor$Row;)Z" } : Jvm.MethodName)) ∈ lw_all := lw_g (lw_at lw_m6 186 rfl) rfl
theorem q1471 : (Jvm.Cond.code ({ cls := "QueryHarbor$Condition", name := "holdsFor", desc := "(LQueryHarbor$Row;)Z" } : Jvm.MethodName) prog_3_method_2_code (3 : Nat) (Option.some Jvm.ClassFile.FieldType.boolean)) ∈ lw_all := lw_g (lw_at lw_m6 187 rfl) rfl
theorem q1472 : (Jvm.Cond.methodLinkNest "QueryHarbor$Condition" (30 : Nat) ({ cls := "QueryHarbor", name := "isNumber", desc := "(I)Z" } : Jvm.MethodName) "QueryHarbor") ∈ lw_tbl := lw_at lw_m6 188 rfl
theorem q2354 : (Jvm.Cond.castable "QueryHarbor$Condition" "java/lang/Object") ∈ lw_tbl := lw_at lw_m10 110 rfl
theorem in_X12 : ∀ w ∈ wsX120, w ∈ lw_all := lw_in wsX120 [1205, 1207, 1209, 1211] (by decide +kernel) (by decide +kernel)
/-! QueryHarbor$Output -/
set_option maxRecDepth 100000
def RX13 : String := "QueryHarbor$Output"
def TX13 : u_T := fun k => match k with
  | 0 => ("QueryHarbor$Output", "seat", "I", true)
  | _ => ("QueryHarbor$Output", "column", "I", true)
def tyX13 : Nat → FieldType := fun k => match k with
  | 0 => .int
  | _ => .int
abbrev wsX130 : List Cond := u_ws RX13 TX13 2
theorem nmX13 : ∀ a, a < 2 → ∀ b, b < 2 → a ≠ b → (TX13 a).2.1 ≠ (TX13 b).2.1 := by decide +kernel
theorem tyX13_ok : ∀ k, k < 2 → parseFieldDescriptor (TX13 k).2.2.1 = some (tyX13 k) := by decide +kernel
abbrev cX13_init : ByteArray := prog_13_method_1_code
def yX13_init : MethodName := ⟨RX13, "<init>", "(II)V"⟩
def dkwX13_init_0 : List UInt8 := [42, 183, 0, 1, 42, 27, 181, 0, 7, 42, 28, 181, 0, 13, 177]
abbrev dktX13_init_0 : List UInt8 := dkwX13_init_0 ++ []
theorem dksX13_init_0 : cX13_init.data.toList.drop 0 = dktX13_init_0 := by decide +kernel
theorem dX13_init_0 : decode cX13_init 0 = .ok (.aload_n 0, 1) := dk_42 (dk_at dksX13_init_0 0 rfl rfl)
theorem dX13_init_1 : decode cX13_init 1 = .ok (.invokespecial 1, 3) := dk_183 0 1 (dk_at dksX13_init_0 1 rfl rfl)
theorem dX13_init_4 : decode cX13_init 4 = .ok (.aload_n 0, 1) := dk_42 (dk_at dksX13_init_0 4 rfl rfl)
theorem dX13_init_5 : decode cX13_init 5 = .ok (.iload_n 1, 1) := dk_27 (dk_at dksX13_init_0 5 rfl rfl)
theorem dX13_init_6 : decode cX13_init 6 = .ok (.putfield 7, 3) := dk_181 0 7 (dk_at dksX13_init_0 6 rfl rfl)
theorem dX13_init_9 : decode cX13_init 9 = .ok (.aload_n 0, 1) := dk_42 (dk_at dksX13_init_0 9 rfl rfl)
theorem dX13_init_10 : decode cX13_init 10 = .ok (.iload_n 2, 1) := dk_28 (dk_at dksX13_init_0 10 rfl rfl)
theorem dX13_init_11 : decode cX13_init 11 = .ok (.putfield 13, 3) := dk_181 0 13 (dk_at dksX13_init_0 11 rfl rfl)
theorem dX13_init_14 : decode cX13_init 14 = .ok (.return_, 1) := dk_177 (dk_at dksX13_init_0 14 rfl rfl)
theorem q121 : (Jvm.Cond.initialized "QueryHarbor$Output") ∈ lw_all := lw_g (lw_at lw_m1 37 rfl) rfl
theorem q934 : (Jvm.Cond.selects "QueryHarbor$Output" ({ cls := "java/lang/Object", name := "getClass", desc := "()Ljava/lang/Class;" } : Jvm.MethodName) ({ cls := "java/lang/Object", name := "getClass", desc := "()Ljava/lang/Class;" } : Jvm.MethodName)) ∈ lw_all := lw_g (lw_at lw_m4 130 rfl) rfl
theorem q1222 : (Jvm.Cond.instantiable "QueryHarbor$Output" (2 : Nat)) ∈ lw_all := lw_g (lw_at lw_m5 178 rfl) rfl
theorem q1224 : (Jvm.Cond.instanceMethod ({ cls := "QueryHarbor$Output", name := "<init>", desc := "(II)V" } : Jvm.MethodName)) ∈ lw_all := lw_g (lw_at lw_m5 180 rfl) rfl
theorem q1225 : (Jvm.Cond.code ({ cls := "QueryHarbor$Output", name := "<init>", desc := "(II)V" } : Jvm.MethodName) prog_13_method_1_code (3 : Nat) (Option.none : Option Jvm.ClassFile.FieldType)) ∈ lw_all := lw_g (lw_at lw_m5 181 rfl) rfl
theorem q1226 : (Jvm.Cond.methodLink "QueryHarbor$Output" (1 : Nat) ({ cls := "java/lang/Object", name := "<init>", desc := "()V" } : Jvm.MethodName)) ∈ lw_all := lw_g (lw_at lw_m5 182 rfl) rfl
theorem q1227 : (Jvm.Cond.fieldLink "QueryHarbor$Output" (7 : Nat) "QueryHarbor$Output" "seat" "I") ∈ lw_all := lw_g (lw_at lw_m5 183 rfl) rfl
theorem q1229 : (Jvm.Cond.fieldLink "QueryHarbor$Output" (13 : Nat) "QueryHarbor$Output" "column" "I") ∈ lw_all := lw_g (lw_at lw_m5 185 rfl) rfl
theorem q1231 : (Jvm.Cond.laysFinal "QueryHarbor$Output" "QueryHarbor$Output" "seat" "I") ∈ lw_all := lw_g (lw_at lw_m5 187 rfl) rfl
theorem q1232 : (Jvm.Cond.soleField "QueryHarbor$Output" "seat") ∈ lw_all := lw_g (lw_at lw_m5 188 rfl) rfl
theorem q1233 : (Jvm.Cond.laysFinal "QueryHarbor$Output" "QueryHarbor$Output" "column" "I") ∈ lw_all := lw_g (lw_at lw_m5 189 rfl) rfl
theorem q1234 : (Jvm.Cond.soleField "QueryHarbor$Output" "column") ∈ lw_all := lw_g (lw_at lw_m5 190 rfl) rfl
theorem q1235 : (Jvm.Cond.superclass "QueryHarbor$Output" "java/lang/Object") ∈ lw_all := lw_g (lw_at lw_m5 191 rfl) rfl
theorem q2355 : (Jvm.Cond.castable "QueryHarbor$Output" "java/lang/Object") ∈ lw_tbl := lw_at lw_m10 111 rfl
theorem in_X13 : ∀ w ∈ wsX130, w ∈ lw_all := lw_in wsX130 [1231, 1233] (by decide +kernel) (by decide +kernel)
/-! QueryHarbor$Seat -/
set_option maxRecDepth 100000
def RX14 : String := "QueryHarbor$Seat"
def TX14 : u_T := fun k => match k with
  | 0 => ("QueryHarbor$Seat", "number", "I", true)
  | 1 => ("QueryHarbor$Seat", "source", "LQueryHarbor$Source;", true)
  | 2 => ("QueryHarbor$Seat", "own", "Ljava/util/ArrayList;", true)
  | 3 => ("QueryHarbor$Seat", "sent", "Ljava/util/ArrayList;", true)
  | 4 => ("QueryHarbor$Seat", "rows", "Ljava/util/ArrayList;", false)
  | 5 => ("QueryHarbor$Seat", "isTaken", "Z", false)
  | 6 => ("QueryHarbor$Seat", "isOpen", "Z", false)
  | 7 => ("QueryHarbor$Seat", "how", "I", false)
  | 8 => ("QueryHarbor$Seat", "rowsMoment", "I", false)
  | 9 => ("QueryHarbor$Seat", "spent", "I", false)
  | _ => ("QueryHarbor$Seat", "this$0", "LQueryHarbor;", true)
def tyX14 : Nat → FieldType := fun k => match k with
  | 0 => .int
  | 1 => .object "QueryHarbor$Source"
  | 2 => .object "java/util/ArrayList"
  | 3 => .object "java/util/ArrayList"
  | 4 => .object "java/util/ArrayList"
  | 5 => .boolean
  | 6 => .boolean
  | 7 => .int
  | 8 => .int
  | 9 => .int
  | _ => .object "QueryHarbor"
abbrev wsX140 : List Cond := u_ws RX14 TX14 11
theorem nmX14 : ∀ a, a < 11 → ∀ b, b < 11 → a ≠ b → (TX14 a).2.1 ≠ (TX14 b).2.1 := by decide +kernel
theorem tyX14_ok : ∀ k, k < 11 → parseFieldDescriptor (TX14 k).2.2.1 = some (tyX14 k) := by decide +kernel
abbrev cX14_init : ByteArray := prog_15_method_1_code
def yX14_init : MethodName := ⟨RX14, "<init>", "(LQueryHarbor;I)V"⟩
def dkwX14_init_6 : List UInt8 := [42, 180, 0, 20, 25, 4, 182, 0, 64, 87, 132, 3, 1, 167, 255, 172, 177]
abbrev dktX14_init_6 : List UInt8 := dkwX14_init_6 ++ []
def dkwX14_init_5 : List UInt8 := [180, 0, 68, 180, 0, 74, 25, 4, 180, 0, 80, 25, 4, 180, 0, 83, 185, 0, 86, 3, 0, 153, 0, 13]
abbrev dktX14_init_5 : List UInt8 := dkwX14_init_5 ++ dktX14_init_6
def dkwX14_init_4 : List UInt8 := [25, 4, 180, 0, 61, 28, 160, 0, 51, 42, 180, 0, 16, 25, 4, 182, 0, 64, 87, 42, 180, 0, 49]
abbrev dktX14_init_4 : List UInt8 := dkwX14_init_4 ++ dktX14_init_5
def dkwX14_init_3 : List UInt8 := [29, 43, 180, 0, 53, 182, 0, 56, 162, 0, 79, 43, 180, 0, 53, 29, 182, 0, 39, 192, 0, 59, 58, 4]
abbrev dktX14_init_3 : List UInt8 := dkwX14_init_3 ++ dktX14_init_4
def dkwX14_init_2 : List UInt8 := [43, 180, 0, 30, 43, 180, 0, 36, 28, 182, 0, 39, 192, 0, 43, 182, 0, 45, 50, 181, 0, 49, 3, 62]
abbrev dktX14_init_2 : List UInt8 := dkwX14_init_2 ++ dktX14_init_3
def dkwX14_init_1 : List UInt8 := [89, 183, 0, 15, 181, 0, 20, 42, 187, 0, 13, 89, 183, 0, 15, 181, 0, 23, 42, 28, 181, 0, 26, 42]
abbrev dktX14_init_1 : List UInt8 := dkwX14_init_1 ++ dktX14_init_2
def dkwX14_init_0 : List UInt8 := [42, 43, 181, 0, 1, 42, 183, 0, 7, 42, 187, 0, 13, 89, 183, 0, 15, 181, 0, 16, 42, 187, 0, 13]
abbrev dktX14_init_0 : List UInt8 := dkwX14_init_0 ++ dktX14_init_1
theorem dksX14_init_0 : cX14_init.data.toList.drop 0 = dktX14_init_0 := by decide +kernel
theorem dksX14_init_1 : cX14_init.data.toList.drop 24 = dktX14_init_1 := dk_seg dksX14_init_0 24 rfl rfl
theorem dksX14_init_2 : cX14_init.data.toList.drop 48 = dktX14_init_2 := dk_seg dksX14_init_1 24 rfl rfl
theorem dksX14_init_3 : cX14_init.data.toList.drop 72 = dktX14_init_3 := dk_seg dksX14_init_2 24 rfl rfl
theorem dksX14_init_4 : cX14_init.data.toList.drop 96 = dktX14_init_4 := dk_seg dksX14_init_3 24 rfl rfl
theorem dksX14_init_5 : cX14_init.data.toList.drop 119 = dktX14_init_5 := dk_seg dksX14_init_4 23 rfl rfl
theorem dksX14_init_6 : cX14_init.data.toList.drop 143 = dktX14_init_6 := dk_seg dksX14_init_5 24 rfl rfl
theorem dX14_init_0 : decode cX14_init 0 = .ok (.aload_n 0, 1) := dk_42 (dk_at dksX14_init_0 0 rfl rfl)
theorem dX14_init_1 : decode cX14_init 1 = .ok (.aload_n 1, 1) := dk_43 (dk_at dksX14_init_0 1 rfl rfl)
theorem dX14_init_2 : decode cX14_init 2 = .ok (.putfield 1, 3) := dk_181 0 1 (dk_at dksX14_init_0 2 rfl rfl)
theorem dX14_init_5 : decode cX14_init 5 = .ok (.aload_n 0, 1) := dk_42 (dk_at dksX14_init_0 5 rfl rfl)
theorem dX14_init_6 : decode cX14_init 6 = .ok (.invokespecial 7, 3) := dk_183 0 7 (dk_at dksX14_init_0 6 rfl rfl)
theorem dX14_init_9 : decode cX14_init 9 = .ok (.aload_n 0, 1) := dk_42 (dk_at dksX14_init_0 9 rfl rfl)
theorem dX14_init_10 : decode cX14_init 10 = .ok (.new 13, 3) := dk_187 0 13 (dk_at dksX14_init_0 10 rfl rfl)
theorem dX14_init_13 : decode cX14_init 13 = .ok (.dup, 1) := dk_89 (dk_at dksX14_init_0 13 rfl rfl)
theorem dX14_init_14 : decode cX14_init 14 = .ok (.invokespecial 15, 3) := dk_183 0 15 (dk_at dksX14_init_0 14 rfl rfl)
theorem dX14_init_17 : decode cX14_init 17 = .ok (.putfield 16, 3) := dk_181 0 16 (dk_at dksX14_init_0 17 rfl rfl)
theorem dX14_init_20 : decode cX14_init 20 = .ok (.aload_n 0, 1) := dk_42 (dk_at dksX14_init_0 20 rfl rfl)
theorem dX14_init_21 : decode cX14_init 21 = .ok (.new 13, 3) := dk_187 0 13 (dk_at dksX14_init_0 21 rfl rfl)
theorem dX14_init_24 : decode cX14_init 24 = .ok (.dup, 1) := dk_89 (dk_at dksX14_init_1 0 rfl rfl)
theorem dX14_init_25 : decode cX14_init 25 = .ok (.invokespecial 15, 3) := dk_183 0 15 (dk_at dksX14_init_1 1 rfl rfl)
theorem dX14_init_28 : decode cX14_init 28 = .ok (.putfield 20, 3) := dk_181 0 20 (dk_at dksX14_init_1 4 rfl rfl)
theorem dX14_init_31 : decode cX14_init 31 = .ok (.aload_n 0, 1) := dk_42 (dk_at dksX14_init_1 7 rfl rfl)
theorem dX14_init_32 : decode cX14_init 32 = .ok (.new 13, 3) := dk_187 0 13 (dk_at dksX14_init_1 8 rfl rfl)
theorem dX14_init_35 : decode cX14_init 35 = .ok (.dup, 1) := dk_89 (dk_at dksX14_init_1 11 rfl rfl)
theorem dX14_init_36 : decode cX14_init 36 = .ok (.invokespecial 15, 3) := dk_183 0 15 (dk_at dksX14_init_1 12 rfl rfl)
theorem dX14_init_39 : decode cX14_init 39 = .ok (.putfield 23, 3) := dk_181 0 23 (dk_at dksX14_init_1 15 rfl rfl)
theorem dX14_init_42 : decode cX14_init 42 = .ok (.aload_n 0, 1) := dk_42 (dk_at dksX14_init_1 18 rfl rfl)
theorem dX14_init_43 : decode cX14_init 43 = .ok (.iload_n 2, 1) := dk_28 (dk_at dksX14_init_1 19 rfl rfl)
theorem dX14_init_44 : decode cX14_init 44 = .ok (.putfield 26, 3) := dk_181 0 26 (dk_at dksX14_init_1 20 rfl rfl)
theorem dX14_init_47 : decode cX14_init 47 = .ok (.aload_n 0, 1) := dk_42 (dk_at dksX14_init_1 23 rfl rfl)
theorem dX14_init_48 : decode cX14_init 48 = .ok (.aload_n 1, 1) := dk_43 (dk_at dksX14_init_2 0 rfl rfl)
theorem dX14_init_49 : decode cX14_init 49 = .ok (.getfield 30, 3) := dk_180 0 30 (dk_at dksX14_init_2 1 rfl rfl)
theorem dX14_init_52 : decode cX14_init 52 = .ok (.aload_n 1, 1) := dk_43 (dk_at dksX14_init_2 4 rfl rfl)
theorem dX14_init_53 : decode cX14_init 53 = .ok (.getfield 36, 3) := dk_180 0 36 (dk_at dksX14_init_2 5 rfl rfl)
theorem dX14_init_56 : decode cX14_init 56 = .ok (.iload_n 2, 1) := dk_28 (dk_at dksX14_init_2 8 rfl rfl)
theorem dX14_init_57 : decode cX14_init 57 = .ok (.invokevirtual 39, 3) := dk_182 0 39 (dk_at dksX14_init_2 9 rfl rfl)
theorem dX14_init_60 : decode cX14_init 60 = .ok (.checkcast 43, 3) := dk_192 0 43 (dk_at dksX14_init_2 12 rfl rfl)
theorem dX14_init_63 : decode cX14_init 63 = .ok (.invokevirtual 45, 3) := dk_182 0 45 (dk_at dksX14_init_2 15 rfl rfl)
theorem dX14_init_66 : decode cX14_init 66 = .ok (.aaload, 1) := dk_50 (dk_at dksX14_init_2 18 rfl rfl)
theorem dX14_init_67 : decode cX14_init 67 = .ok (.putfield 49, 3) := dk_181 0 49 (dk_at dksX14_init_2 19 rfl rfl)
theorem dX14_init_70 : decode cX14_init 70 = .ok (.iconst 0, 1) := dk_3 (dk_at dksX14_init_2 22 rfl rfl)
theorem dX14_init_71 : decode cX14_init 71 = .ok (.istore_n 3, 1) := dk_62 (dk_at dksX14_init_2 23 rfl rfl)
theorem dX14_init_72 : decode cX14_init 72 = .ok (.iload_n 3, 1) := dk_29 (dk_at dksX14_init_3 0 rfl rfl)
theorem dX14_init_73 : decode cX14_init 73 = .ok (.aload_n 1, 1) := dk_43 (dk_at dksX14_init_3 1 rfl rfl)
theorem dX14_init_74 : decode cX14_init 74 = .ok (.getfield 53, 3) := dk_180 0 53 (dk_at dksX14_init_3 2 rfl rfl)
theorem dX14_init_77 : decode cX14_init 77 = .ok (.invokevirtual 56, 3) := dk_182 0 56 (dk_at dksX14_init_3 5 rfl rfl)
theorem dX14_init_80 : decode cX14_init 80 = .ok (.if_icmp .ge 79, 3) := dk_162 0 79 (dk_at dksX14_init_3 8 rfl rfl)
theorem dX14_init_83 : decode cX14_init 83 = .ok (.aload_n 1, 1) := dk_43 (dk_at dksX14_init_3 11 rfl rfl)
theorem dX14_init_84 : decode cX14_init 84 = .ok (.getfield 53, 3) := dk_180 0 53 (dk_at dksX14_init_3 12 rfl rfl)
theorem dX14_init_87 : decode cX14_init 87 = .ok (.iload_n 3, 1) := dk_29 (dk_at dksX14_init_3 15 rfl rfl)
theorem dX14_init_88 : decode cX14_init 88 = .ok (.invokevirtual 39, 3) := dk_182 0 39 (dk_at dksX14_init_3 16 rfl rfl)
theorem dX14_init_91 : decode cX14_init 91 = .ok (.checkcast 59, 3) := dk_192 0 59 (dk_at dksX14_init_3 19 rfl rfl)
theorem dX14_init_94 : decode cX14_init 94 = .ok (.astore 4, 2) := dk_58 4 (dk_at dksX14_init_3 22 rfl rfl)
theorem dX14_init_96 : decode cX14_init 96 = .ok (.aload 4, 2) := dk_25 4 (dk_at dksX14_init_4 0 rfl rfl)
theorem dX14_init_98 : decode cX14_init 98 = .ok (.getfield 61, 3) := dk_180 0 61 (dk_at dksX14_init_4 2 rfl rfl)
theorem dX14_init_101 : decode cX14_init 101 = .ok (.iload_n 2, 1) := dk_28 (dk_at dksX14_init_4 5 rfl rfl)
theorem dX14_init_102 : decode cX14_init 102 = .ok (.if_icmp .ne 51, 3) := dk_160 0 51 (dk_at dksX14_init_4 6 rfl rfl)
theorem dX14_init_105 : decode cX14_init 105 = .ok (.aload_n 0, 1) := dk_42 (dk_at dksX14_init_4 9 rfl rfl)
theorem dX14_init_106 : decode cX14_init 106 = .ok (.getfield 16, 3) := dk_180 0 16 (dk_at dksX14_init_4 10 rfl rfl)
theorem dX14_init_109 : decode cX14_init 109 = .ok (.aload 4, 2) := dk_25 4 (dk_at dksX14_init_4 13 rfl rfl)
theorem dX14_init_111 : decode cX14_init 111 = .ok (.invokevirtual 64, 3) := dk_182 0 64 (dk_at dksX14_init_4 15 rfl rfl)
theorem dX14_init_114 : decode cX14_init 114 = .ok (.pop, 1) := dk_87 (dk_at dksX14_init_4 18 rfl rfl)
theorem dX14_init_115 : decode cX14_init 115 = .ok (.aload_n 0, 1) := dk_42 (dk_at dksX14_init_4 19 rfl rfl)
theorem dX14_init_116 : decode cX14_init 116 = .ok (.getfield 49, 3) := dk_180 0 49 (dk_at dksX14_init_4 20 rfl rfl)
theorem dX14_init_119 : decode cX14_init 119 = .ok (.getfield 68, 3) := dk_180 0 68 (dk_at dksX14_init_5 0 rfl rfl)
theorem dX14_init_122 : decode cX14_init 122 = .ok (.getfield 74, 3) := dk_180 0 74 (dk_at dksX14_init_5 3 rfl rfl)
theorem dX14_init_125 : decode cX14_init 125 = .ok (.aload 4, 2) := dk_25 4 (dk_at dksX14_init_5 6 rfl rfl)
theorem dX14_init_127 : decode cX14_init 127 = .ok (.getfield 80, 3) := dk_180 0 80 (dk_at dksX14_init_5 8 rfl rfl)
theorem dX14_init_130 : decode cX14_init 130 = .ok (.aload 4, 2) := dk_25 4 (dk_at dksX14_init_5 11 rfl rfl)
theorem dX14_init_132 : decode cX14_init 132 = .ok (.getfield 83, 3) := dk_180 0 83 (dk_at dksX14_init_5 13 rfl rfl)
theorem dX14_init_135 : decode cX14_init 135 = .ok (.invokeinterface 86 3, 5) := by decide +kernel
theorem dX14_init_140 : decode cX14_init 140 = .ok (.ifCond .eq 13, 3) := dk_153 0 13 (dk_at dksX14_init_5 21 rfl rfl)
theorem dX14_init_143 : decode cX14_init 143 = .ok (.aload_n 0, 1) := dk_42 (dk_at dksX14_init_6 0 rfl rfl)
theorem dX14_init_144 : decode cX14_init 144 = .ok (.getfield 20, 3) := dk_180 0 20 (dk_at dksX14_init_6 1 rfl rfl)
theorem dX14_init_147 : decode cX14_init 147 = .ok (.aload 4, 2) := dk_25 4 (dk_at dksX14_init_6 4 rfl rfl)
theorem dX14_init_149 : decode cX14_init 149 = .ok (.invokevirtual 64, 3) := dk_182 0 64 (dk_at dksX14_init_6 6 rfl rfl)
theorem dX14_init_152 : decode cX14_init 152 = .ok (.pop, 1) := dk_87 (dk_at dksX14_init_6 9 rfl rfl)
theorem dX14_init_153 : decode cX14_init 153 = .ok (.iinc 3 1, 3) := dk_132 3 1 (dk_at dksX14_init_6 10 rfl rfl)
theorem dX14_init_156 : decode cX14_init 156 = .ok (.goto (-84), 3) := dk_167 255 172 (dk_at dksX14_init_6 13 rfl rfl)
theorem dX14_init_159 : decode cX14_init 159 = .ok (.return_, 1) := dk_177 (dk_at dksX14_init_6 16 rfl rfl)
abbrev cX14_guess : ByteArray := prog_15_method_2_code
def yX14_guess : MethodName := ⟨RX14, "guess", "()I"⟩
def dkwX14_guess_0 : List UInt8 := [4, 42, 180, 0, 49, 180, 0, 92, 42, 180, 0, 20, 182, 0, 56, 122, 184, 0, 94, 172]
abbrev dktX14_guess_0 : List UInt8 := dkwX14_guess_0 ++ []
theorem dksX14_guess_0 : cX14_guess.data.toList.drop 0 = dktX14_guess_0 := by decide +kernel
theorem dX14_guess_0 : decode cX14_guess 0 = .ok (.iconst 1, 1) := dk_4 (dk_at dksX14_guess_0 0 rfl rfl)
theorem dX14_guess_1 : decode cX14_guess 1 = .ok (.aload_n 0, 1) := dk_42 (dk_at dksX14_guess_0 1 rfl rfl)
theorem dX14_guess_2 : decode cX14_guess 2 = .ok (.getfield 49, 3) := dk_180 0 49 (dk_at dksX14_guess_0 2 rfl rfl)
theorem dX14_guess_5 : decode cX14_guess 5 = .ok (.getfield 92, 3) := dk_180 0 92 (dk_at dksX14_guess_0 5 rfl rfl)
theorem dX14_guess_8 : decode cX14_guess 8 = .ok (.aload_n 0, 1) := dk_42 (dk_at dksX14_guess_0 8 rfl rfl)
theorem dX14_guess_9 : decode cX14_guess 9 = .ok (.getfield 20, 3) := dk_180 0 20 (dk_at dksX14_guess_0 9 rfl rfl)
theorem dX14_guess_12 : decode cX14_guess 12 = .ok (.invokevirtual 56, 3) := dk_182 0 56 (dk_at dksX14_guess_0 12 rfl rfl)
theorem dX14_guess_15 : decode cX14_guess 15 = .ok (.ishr, 1) := dk_122 (dk_at dksX14_guess_0 15 rfl rfl)
theorem dX14_guess_16 : decode cX14_guess 16 = .ok (.invokestatic 94, 3) := dk_184 0 94 (dk_at dksX14_guess_0 16 rfl rfl)
theorem dX14_guess_19 : decode cX14_guess 19 = .ok (.ireturn, 1) := dk_172 (dk_at dksX14_guess_0 19 rfl rfl)
abbrev cX14_scanCost : ByteArray := prog_15_method_3_code
def yX14_scanCost : MethodName := ⟨RX14, "scanCost", "()I"⟩
def dkwX14_scanCost_1 : List UInt8 := [180, 0, 74, 185, 0, 103, 1, 0, 42, 182, 0, 106, 104, 96, 172]
abbrev dktX14_scanCost_1 : List UInt8 := dkwX14_scanCost_1 ++ []
def dkwX14_scanCost_0 : List UInt8 := [42, 180, 0, 49, 180, 0, 68, 180, 0, 74, 185, 0, 100, 1, 0, 42, 180, 0, 49, 180, 0, 68]
abbrev dktX14_scanCost_0 : List UInt8 := dkwX14_scanCost_0 ++ dktX14_scanCost_1
theorem dksX14_scanCost_0 : cX14_scanCost.data.toList.drop 0 = dktX14_scanCost_0 := by decide +kernel
theorem dksX14_scanCost_1 : cX14_scanCost.data.toList.drop 22 = dktX14_scanCost_1 := dk_seg dksX14_scanCost_0 22 rfl rfl
theorem dX14_scanCost_0 : decode cX14_scanCost 0 = .ok (.aload_n 0, 1) := dk_42 (dk_at dksX14_scanCost_0 0 rfl rfl)
theorem dX14_scanCost_1 : decode cX14_scanCost 1 = .ok (.getfield 49, 3) := dk_180 0 49 (dk_at dksX14_scanCost_0 1 rfl rfl)
theorem dX14_scanCost_4 : decode cX14_scanCost 4 = .ok (.getfield 68, 3) := dk_180 0 68 (dk_at dksX14_scanCost_0 4 rfl rfl)
theorem dX14_scanCost_7 : decode cX14_scanCost 7 = .ok (.getfield 74, 3) := dk_180 0 74 (dk_at dksX14_scanCost_0 7 rfl rfl)
theorem dX14_scanCost_10 : decode cX14_scanCost 10 = .ok (.invokeinterface 100 1, 5) := by decide +kernel
theorem dX14_scanCost_15 : decode cX14_scanCost 15 = .ok (.aload_n 0, 1) := dk_42 (dk_at dksX14_scanCost_0 15 rfl rfl)
theorem dX14_scanCost_16 : decode cX14_scanCost 16 = .ok (.getfield 49, 3) := dk_180 0 49 (dk_at dksX14_scanCost_0 16 rfl rfl)
theorem dX14_scanCost_19 : decode cX14_scanCost 19 = .ok (.getfield 68, 3) := dk_180 0 68 (dk_at dksX14_scanCost_0 19 rfl rfl)
theorem dX14_scanCost_22 : decode cX14_scanCost 22 = .ok (.getfield 74, 3) := dk_180 0 74 (dk_at dksX14_scanCost_1 0 rfl rfl)
theorem dX14_scanCost_25 : decode cX14_scanCost 25 = .ok (.invokeinterface 103 1, 5) := by decide +kernel
theorem dX14_scanCost_30 : decode cX14_scanCost 30 = .ok (.aload_n 0, 1) := dk_42 (dk_at dksX14_scanCost_1 8 rfl rfl)
theorem dX14_scanCost_31 : decode cX14_scanCost 31 = .ok (.invokevirtual 106, 3) := dk_182 0 106 (dk_at dksX14_scanCost_1 9 rfl rfl)
theorem dX14_scanCost_34 : decode cX14_scanCost 34 = .ok (.imul, 1) := dk_104 (dk_at dksX14_scanCost_1 12 rfl rfl)
theorem dX14_scanCost_35 : decode cX14_scanCost 35 = .ok (.iadd, 1) := dk_96 (dk_at dksX14_scanCost_1 13 rfl rfl)
theorem dX14_scanCost_36 : decode cX14_scanCost 36 = .ok (.ireturn, 1) := dk_172 (dk_at dksX14_scanCost_1 14 rfl rfl)
abbrev cX14_filter : ByteArray := prog_15_method_4_code
def yX14_filter : MethodName := ⟨RX14, "filter", "()V"⟩
def dkwX14_filter_3 : List UInt8 := [181, 0, 23, 177]
abbrev dktX14_filter_3 : List UInt8 := dkwX14_filter_3 ++ []
def dkwX14_filter_2 : List UInt8 := [180, 0, 23, 28, 182, 0, 39, 192, 0, 109, 182, 0, 64, 87, 132, 2, 1, 167, 255, 205, 42, 43]
abbrev dktX14_filter_2 : List UInt8 := dkwX14_filter_2 ++ dktX14_filter_3
def dkwX14_filter_1 : List UInt8 := [180, 0, 16, 42, 180, 0, 23, 28, 182, 0, 39, 192, 0, 109, 184, 0, 111, 153, 0, 19, 43, 42]
abbrev dktX14_filter_1 : List UInt8 := dkwX14_filter_1 ++ dktX14_filter_2
def dkwX14_filter_0 : List UInt8 := [187, 0, 13, 89, 183, 0, 15, 76, 3, 61, 28, 42, 180, 0, 23, 182, 0, 56, 162, 0, 46, 42]
abbrev dktX14_filter_0 : List UInt8 := dkwX14_filter_0 ++ dktX14_filter_1
theorem dksX14_filter_0 : cX14_filter.data.toList.drop 0 = dktX14_filter_0 := by decide +kernel
theorem dksX14_filter_1 : cX14_filter.data.toList.drop 22 = dktX14_filter_1 := dk_seg dksX14_filter_0 22 rfl rfl
theorem dksX14_filter_2 : cX14_filter.data.toList.drop 44 = dktX14_filter_2 := dk_seg dksX14_filter_1 22 rfl rfl
theorem dksX14_filter_3 : cX14_filter.data.toList.drop 66 = dktX14_filter_3 := dk_seg dksX14_filter_2 22 rfl rfl
theorem dX14_filter_0 : decode cX14_filter 0 = .ok (.new 13, 3) := dk_187 0 13 (dk_at dksX14_filter_0 0 rfl rfl)
theorem dX14_filter_3 : decode cX14_filter 3 = .ok (.dup, 1) := dk_89 (dk_at dksX14_filter_0 3 rfl rfl)
theorem dX14_filter_4 : decode cX14_filter 4 = .ok (.invokespecial 15, 3) := dk_183 0 15 (dk_at dksX14_filter_0 4 rfl rfl)
theorem dX14_filter_7 : decode cX14_filter 7 = .ok (.astore_n 1, 1) := dk_76 (dk_at dksX14_filter_0 7 rfl rfl)
theorem dX14_filter_8 : decode cX14_filter 8 = .ok (.iconst 0, 1) := dk_3 (dk_at dksX14_filter_0 8 rfl rfl)
theorem dX14_filter_9 : decode cX14_filter 9 = .ok (.istore_n 2, 1) := dk_61 (dk_at dksX14_filter_0 9 rfl rfl)
theorem dX14_filter_10 : decode cX14_filter 10 = .ok (.iload_n 2, 1) := dk_28 (dk_at dksX14_filter_0 10 rfl rfl)
theorem dX14_filter_11 : decode cX14_filter 11 = .ok (.aload_n 0, 1) := dk_42 (dk_at dksX14_filter_0 11 rfl rfl)
theorem dX14_filter_12 : decode cX14_filter 12 = .ok (.getfield 23, 3) := dk_180 0 23 (dk_at dksX14_filter_0 12 rfl rfl)
theorem dX14_filter_15 : decode cX14_filter 15 = .ok (.invokevirtual 56, 3) := dk_182 0 56 (dk_at dksX14_filter_0 15 rfl rfl)
theorem dX14_filter_18 : decode cX14_filter 18 = .ok (.if_icmp .ge 46, 3) := dk_162 0 46 (dk_at dksX14_filter_0 18 rfl rfl)
theorem dX14_filter_21 : decode cX14_filter 21 = .ok (.aload_n 0, 1) := dk_42 (dk_at dksX14_filter_0 21 rfl rfl)
theorem dX14_filter_22 : decode cX14_filter 22 = .ok (.getfield 16, 3) := dk_180 0 16 (dk_at dksX14_filter_1 0 rfl rfl)
theorem dX14_filter_25 : decode cX14_filter 25 = .ok (.aload_n 0, 1) := dk_42 (dk_at dksX14_filter_1 3 rfl rfl)
theorem dX14_filter_26 : decode cX14_filter 26 = .ok (.getfield 23, 3) := dk_180 0 23 (dk_at dksX14_filter_1 4 rfl rfl)
theorem dX14_filter_29 : decode cX14_filter 29 = .ok (.iload_n 2, 1) := dk_28 (dk_at dksX14_filter_1 7 rfl rfl)
theorem dX14_filter_30 : decode cX14_filter 30 = .ok (.invokevirtual 39, 3) := dk_182 0 39 (dk_at dksX14_filter_1 8 rfl rfl)
theorem dX14_filter_33 : decode cX14_filter 33 = .ok (.checkcast 109, 3) := dk_192 0 109 (dk_at dksX14_filter_1 11 rfl rfl)
theorem dX14_filter_36 : decode cX14_filter 36 = .ok (.invokestatic 111, 3) := dk_184 0 111 (dk_at dksX14_filter_1 14 rfl rfl)
theorem dX14_filter_39 : decode cX14_filter 39 = .ok (.ifCond .eq 19, 3) := dk_153 0 19 (dk_at dksX14_filter_1 17 rfl rfl)
theorem dX14_filter_42 : decode cX14_filter 42 = .ok (.aload_n 1, 1) := dk_43 (dk_at dksX14_filter_1 20 rfl rfl)
theorem dX14_filter_43 : decode cX14_filter 43 = .ok (.aload_n 0, 1) := dk_42 (dk_at dksX14_filter_1 21 rfl rfl)
theorem dX14_filter_44 : decode cX14_filter 44 = .ok (.getfield 23, 3) := dk_180 0 23 (dk_at dksX14_filter_2 0 rfl rfl)
theorem dX14_filter_47 : decode cX14_filter 47 = .ok (.iload_n 2, 1) := dk_28 (dk_at dksX14_filter_2 3 rfl rfl)
theorem dX14_filter_48 : decode cX14_filter 48 = .ok (.invokevirtual 39, 3) := dk_182 0 39 (dk_at dksX14_filter_2 4 rfl rfl)
theorem dX14_filter_51 : decode cX14_filter 51 = .ok (.checkcast 109, 3) := dk_192 0 109 (dk_at dksX14_filter_2 7 rfl rfl)
theorem dX14_filter_54 : decode cX14_filter 54 = .ok (.invokevirtual 64, 3) := dk_182 0 64 (dk_at dksX14_filter_2 10 rfl rfl)
theorem dX14_filter_57 : decode cX14_filter 57 = .ok (.pop, 1) := dk_87 (dk_at dksX14_filter_2 13 rfl rfl)
theorem dX14_filter_58 : decode cX14_filter 58 = .ok (.iinc 2 1, 3) := dk_132 2 1 (dk_at dksX14_filter_2 14 rfl rfl)
theorem dX14_filter_61 : decode cX14_filter 61 = .ok (.goto (-51), 3) := dk_167 255 205 (dk_at dksX14_filter_2 17 rfl rfl)
theorem dX14_filter_64 : decode cX14_filter 64 = .ok (.aload_n 0, 1) := dk_42 (dk_at dksX14_filter_2 20 rfl rfl)
theorem dX14_filter_65 : decode cX14_filter 65 = .ok (.aload_n 1, 1) := dk_43 (dk_at dksX14_filter_2 21 rfl rfl)
theorem dX14_filter_66 : decode cX14_filter 66 = .ok (.putfield 23, 3) := dk_181 0 23 (dk_at dksX14_filter_3 0 rfl rfl)
theorem dX14_filter_69 : decode cX14_filter 69 = .ok (.return_, 1) := dk_177 (dk_at dksX14_filter_3 3 rfl rfl)
theorem q122 : (Jvm.Cond.initialized "QueryHarbor$Seat") ∈ lw_all := lw_g (lw_at lw_m1 38 rfl) rfl
theorem q150 : (Jvm.Cond.fieldLink "QueryHarbor$Seat" (74 : Nat) "QueryHarbor$Line" "store" "LQueryHarbor$Store;") ∈ lw_all := lw_g (lw_at lw_m1 66 rfl) rfl
theorem q274 : (Jvm.Cond.fieldLink "QueryHarbor$Seat" (68 : Nat) "QueryHarbor$Source" "line" "LQueryHarbor$Line;") ∈ lw_all := lw_g (lw_at lw_m1 190 rfl) rfl
theorem q283 : (Jvm.Cond.fieldLink "QueryHarbor$Seat" (92 : Nat) "QueryHarbor$Source" "size" "I") ∈ lw_all := lw_g (lw_at lw_m1 199 rfl) rfl
theorem q299 : (Jvm.Cond.fieldLinkNest "QueryHarbor$Seat" (30 : Nat) "QueryHarbor" "sources" "[LQueryHarbor$Source;" "QueryHarbor") ∈ lw_tbl := lw_at lw_m1 215 rfl
theorem q304 : (Jvm.Cond.fieldLinkNest "QueryHarbor$Seat" (36 : Nat) "QueryHarbor" "seats" "Ljava/util/ArrayList;" "QueryHarbor") ∈ lw_tbl := lw_at lw_m1 220 rfl
theorem q307 : (Jvm.Cond.fieldLinkNest "QueryHarbor$Seat" (53 : Nat) "QueryHarbor" "conditions" "Ljava/util/ArrayList;" "QueryHarbor") ∈ lw_tbl := lw_at lw_m1 223 rfl
theorem q936 : (Jvm.Cond.selects "QueryHarbor$Seat" ({ cls := "java/lang/Object", name := "getClass", desc := "()Ljava/lang/Class;" } : Jvm.MethodName) ({ cls := "java/lang/Object", name := "getClass", desc := "()Ljava/lang/Class;" } : Jvm.MethodName)) ∈ lw_all := lw_g (lw_at lw_m4 132 rfl) rfl
theorem q1199 : (Jvm.Cond.fieldLink "QueryHarbor$Seat" (61 : Nat) "QueryHarbor$Condition" "seat" "I") ∈ lw_all := lw_g (lw_at lw_m5 155 rfl) rfl
theorem q1201 : (Jvm.Cond.fieldLink "QueryHarbor$Seat" (83 : Nat) "QueryHarbor$Condition" "column" "I") ∈ lw_all := lw_g (lw_at lw_m5 157 rfl) rfl
theorem q1203 : (Jvm.Cond.fieldLink "QueryHarbor$Seat" (80 : Nat) "QueryHarbor$Condition" "kind" "I") ∈ lw_all := lw_g (lw_at lw_m5 159 rfl) rfl
theorem q1256 : (Jvm.Cond.instantiable "QueryHarbor$Seat" (11 : Nat)) ∈ lw_all := lw_g (lw_at lw_m5 212 rfl) rfl
theorem q1258 : (Jvm.Cond.instanceMethod ({ cls := "QueryHarbor$Seat", name := "<init>", desc := "(LQueryHarbor;I)V" } : Jvm.MethodName)) ∈ lw_all := lw_g (lw_at lw_m5 214 rfl) rfl
theorem q1259 : (Jvm.Cond.code ({ cls := "QueryHarbor$Seat", name := "<init>", desc := "(LQueryHarbor;I)V" } : Jvm.MethodName) prog_15_method_1_code (5 : Nat) (Option.none : Option Jvm.ClassFile.FieldType)) ∈ lw_all := lw_g (lw_at lw_m5 215 rfl) rfl
theorem q1260 : (Jvm.Cond.methodLink "QueryHarbor$Seat" (7 : Nat) ({ cls := "java/lang/Object", name := "<init>", desc := "()V" } : Jvm.MethodName)) ∈ lw_all := lw_g (lw_at lw_m5 216 rfl) rfl
theorem q1261 : (Jvm.Cond.classLink "QueryHarbor$Seat" (13 : Nat) "java/util/ArrayList") ∈ lw_all := lw_g (lw_at lw_m5 217 rfl) rfl
theorem q1262 : (Jvm.Cond.methodLink "QueryHarbor$Seat" (15 : Nat) ({ cls := "java/util/ArrayList", name := "<init>", desc := "()V" } : Jvm.MethodName)) ∈ lw_all := lw_g (lw_at lw_m5 218 rfl) rfl
theorem q1263 : (Jvm.Cond.methodLink "QueryHarbor$Seat" (39 : Nat) ({ cls := "java/util/ArrayList", name := "get", desc := "(I)Ljava/lang/Object;" } : Jvm.MethodName)) ∈ lw_all := lw_g (lw_at lw_m5 219 rfl) rfl
theorem q1264 : (Jvm.Cond.classLink "QueryHarbor$Seat" (43 : Nat) "java/lang/Integer") ∈ lw_all := lw_g (lw_at lw_m5 220 rfl) rfl
theorem q1265 : (Jvm.Cond.methodLink "QueryHarbor$Seat" (45 : Nat) ({ cls := "java/lang/Integer", name := "intValue", desc := "()I" } : Jvm.MethodName)) ∈ lw_all := lw_g (lw_at lw_m5 221 rfl) rfl
theorem q1266 : (Jvm.Cond.methodLink "QueryHarbor$Seat" (56 : Nat) ({ cls := "java/util/ArrayList", name := "size", desc := "()I" } : Jvm.MethodName)) ∈ lw_all := lw_g (lw_at lw_m5 222 rfl) rfl
theorem q1267 : (Jvm.Cond.classLink "QueryHarbor$Seat" (59 : Nat) "QueryHarbor$Condition") ∈ lw_all := lw_g (lw_at lw_m5 223 rfl) rfl
theorem q1268 : (Jvm.Cond.methodLink "QueryHarbor$Seat" (64 : Nat) ({ cls := "java/util/ArrayList", name := "add", desc := "(Ljava/lang/Object;)Z" } : Jvm.MethodName)) ∈ lw_all := lw_g (lw_at lw_m5 224 rfl) rfl
theorem q1269 : (Jvm.Cond.interfaceEntry "QueryHarbor$Seat" (86 : Nat)) ∈ lw_tbl := lw_at lw_m5 225 rfl
theorem q1270 : (Jvm.Cond.methodLink "QueryHarbor$Seat" (86 : Nat) ({ cls := "QueryHarbor$Store", name := "can", desc := "(II)Z" } : Jvm.MethodName)) ∈ lw_all := lw_g (lw_at lw_m5 226 rfl) rfl
theorem q1288 : (Jvm.Cond.fieldLink "QueryHarbor$Seat" (26 : Nat) "QueryHarbor$Seat" "number" "I") ∈ lw_all := lw_g (lw_at lw_m6 4 rfl) rfl
theorem q1290 : (Jvm.Cond.fieldLink "QueryHarbor$Seat" (49 : Nat) "QueryHarbor$Seat" "source" "LQueryHarbor$Source;") ∈ lw_all := lw_g (lw_at lw_m6 6 rfl) rfl
theorem q1292 : (Jvm.Cond.fieldLink "QueryHarbor$Seat" (16 : Nat) "QueryHarbor$Seat" "own" "Ljava/util/ArrayList;") ∈ lw_all := lw_g (lw_at lw_m6 8 rfl) rfl
theorem q1293 : (Jvm.Cond.fieldLink "QueryHarbor$Seat" (20 : Nat) "QueryHarbor$Seat" "sent" "Ljava/util/ArrayList;") ∈ lw_all := lw_g (lw_at lw_m6 9 rfl) rfl
theorem q1295 : (Jvm.Cond.fieldLink "QueryHarbor$Seat" (23 : Nat) "QueryHarbor$Seat" "rows" "Ljava/util/ArrayList;") ∈ lw_all := lw_g (lw_at lw_m6 11 rfl) rfl
theorem q1302 : (Jvm.Cond.fieldLink "QueryHarbor$Seat" (1 : Nat) "QueryHarbor$Seat" "this$0" "LQueryHarbor;") ∈ lw_all := lw_g (lw_at lw_m6 18 rfl) rfl
theorem q1303 : (Jvm.Cond.laysFinal "QueryHarbor$Seat" "QueryHarbor$Seat" "number" "I") ∈ lw_all := lw_g (lw_at lw_m6 19 rfl) rfl
theorem q1304 : (Jvm.Cond.soleField "QueryHarbor$Seat" "number") ∈ lw_all := lw_g (lw_at lw_m6 20 rfl) rfl
theorem q1305 : (Jvm.Cond.laysFinal "QueryHarbor$Seat" "QueryHarbor$Seat" "source" "LQueryHarbor$Source;") ∈ lw_all := lw_g (lw_at lw_m6 21 rfl) rfl
theorem q1306 : (Jvm.Cond.soleField "QueryHarbor$Seat" "source") ∈ lw_all := lw_g (lw_at lw_m6 22 rfl) rfl
theorem q1307 : (Jvm.Cond.laysFinal "QueryHarbor$Seat" "QueryHarbor$Seat" "own" "Ljava/util/ArrayList;") ∈ lw_all := lw_g (lw_at lw_m6 23 rfl) rfl
theorem q1308 : (Jvm.Cond.soleField "QueryHarbor$Seat" "own") ∈ lw_all := lw_g (lw_at lw_m6 24 rfl) rfl
theorem q1309 : (Jvm.Cond.laysFinal "QueryHarbor$Seat" "QueryHarbor$Seat" "sent" "Ljava/util/ArrayList;") ∈ lw_all := lw_g (lw_at lw_m6 25 rfl) rfl
theorem q1310 : (Jvm.Cond.soleField "QueryHarbor$Seat" "sent") ∈ lw_all := lw_g (lw_at lw_m6 26 rfl) rfl
theorem q1311 : (Jvm.Cond.lays "QueryHarbor$Seat" "QueryHarbor$Seat" "rows" "Ljava/util/ArrayList;") ∈ lw_all := lw_g (lw_at lw_m6 27 rfl) rfl
theorem q1312 : (Jvm.Cond.soleField "QueryHarbor$Seat" "rows") ∈ lw_all := lw_g (lw_at lw_m6 28 rfl) rfl
theorem q1313 : (Jvm.Cond.lays "QueryHarbor$Seat" "QueryHarbor$Seat" "isTaken" "Z") ∈ lw_all := lw_g (lw_at lw_m6 29 rfl) rfl
theorem q1314 : (Jvm.Cond.soleField "QueryHarbor$Seat" "isTaken") ∈ lw_all := lw_g (lw_at lw_m6 30 rfl) rfl
theorem q1315 : (Jvm.Cond.lays "QueryHarbor$Seat" "QueryHarbor$Seat" "isOpen" "Z") ∈ lw_all := lw_g (lw_at lw_m6 31 rfl) rfl
theorem q1316 : (Jvm.Cond.soleField "QueryHarbor$Seat" "isOpen") ∈ lw_all := lw_g (lw_at lw_m6 32 rfl) rfl
theorem q1317 : (Jvm.Cond.lays "QueryHarbor$Seat" "QueryHarbor$Seat" "how" "I") ∈ lw_all := lw_g (lw_at lw_m6 33 rfl) rfl
theorem q1318 : (Jvm.Cond.soleField "QueryHarbor$Seat" "how") ∈ lw_all := lw_g (lw_at lw_m6 34 rfl) rfl
theorem q1319 : (Jvm.Cond.lays "QueryHarbor$Seat" "QueryHarbor$Seat" "rowsMoment" "I") ∈ lw_all := lw_g (lw_at lw_m6 35 rfl) rfl
theorem q1320 : (Jvm.Cond.soleField "QueryHarbor$Seat" "rowsMoment") ∈ lw_all := lw_g (lw_at lw_m6 36 rfl) rfl
theorem q1321 : (Jvm.Cond.lays "QueryHarbor$Seat" "QueryHarbor$Seat" "spent" "I") ∈ lw_all := lw_g (lw_at lw_m6 37 rfl) rfl
theorem q1322 : (Jvm.Cond.soleField "QueryHarbor$Seat" "spent") ∈ lw_all := lw_g (lw_at lw_m6 38 rfl) rfl
theorem q1323 : (Jvm.Cond.laysFinal "QueryHarbor$Seat" "QueryHarbor$Seat" "this$0" "LQueryHarbor;") ∈ lw_all := lw_g (lw_at lw_m6 39 rfl) rfl
theorem q1324 : (Jvm.Cond.soleField "QueryHarbor$Seat" "this$0") ∈ lw_all := lw_g (lw_at lw_m6 40 rfl) rfl
theorem q1325 : (Jvm.Cond.superclass "QueryHarbor$Seat" "java/lang/Object") ∈ lw_all := lw_g (lw_at lw_m6 41 rfl) rfl
theorem q1339 : (Jvm.Cond.instanceMethod ({ cls := "QueryHarbor$Seat", name := "guess", desc := "()I" } : Jvm.MethodName)) ∈ lw_all := lw_g (lw_at lw_m6 55 rfl) rfl
theorem q1340 : (Jvm.Cond.selects "QueryHarbor$Seat" ({ cls := "QueryHarbor$Seat", name := "guess", desc := "()I" } : Jvm.MethodName) ({ cls := "QueryHarbor$Seat", name := "guess", desc := "()I" } : Jvm.MethodName)) ∈ lw_all := lw_g (lw_at lw_m6 56 rfl) rfl
theorem q1341 : (Jvm.Cond.code ({ cls := "QueryHarbor$Seat", name := "guess", desc := "()I" } : Jvm.MethodName) prog_15_method_2_code (1 : Nat) (Option.some Jvm.ClassFile.FieldType.int)) ∈ lw_all := lw_g (lw_at lw_m6 57 rfl) rfl
theorem q1342 : (Jvm.Cond.methodLink "QueryHarbor$Seat" (94 : Nat) ({ cls := "java/lang/Math", name := "max", desc := "(II)I" } : Jvm.MethodName)) ∈ lw_all := lw_g (lw_at lw_m6 58 rfl) rfl
theorem q1374 : (Jvm.Cond.instanceMethod ({ cls := "QueryHarbor$Seat", name := "scanCost", desc := "()I" } : Jvm.MethodName)) ∈ lw_all := lw_g (lw_at lw_m6 90 rfl) rfl
theorem q1375 : (Jvm.Cond.selects "QueryHarbor$Seat" ({ cls := "QueryHarbor$Seat", name := "scanCost", desc := "()I" } : Jvm.MethodName) ({ cls := "QueryHarbor$Seat", name := "scanCost", desc := "()I" } : Jvm.MethodName)) ∈ lw_all := lw_g (lw_at lw_m6 91 rfl) rfl
theorem q1376 : (Jvm.Cond.code ({ cls := "QueryHarbor$Seat", name := "scanCost", desc := "()I" } : Jvm.MethodName) prog_15_method_3_code (1 : Nat) (Option.some Jvm.ClassFile.FieldType.int)) ∈ lw_all := lw_g (lw_at lw_m6 92 rfl) rfl
theorem q1377 : (Jvm.Cond.interfaceEntry "QueryHarbor$Seat" (100 : Nat)) ∈ lw_tbl := lw_at lw_m6 93 rfl
theorem q1378 : (Jvm.Cond.methodLink "QueryHarbor$Seat" (100 : Nat) ({ cls := "QueryHarbor$Store", name := "fee", desc := "()I" } : Jvm.MethodName)) ∈ lw_all := lw_g (lw_at lw_m6 94 rfl) rfl
theorem q1396 : (Jvm.Cond.interfaceEntry "QueryHarbor$Seat" (103 : Nat)) ∈ lw_tbl := lw_at lw_m6 112 rfl
theorem q1397 : (Jvm.Cond.methodLink "QueryHarbor$Seat" (103 : Nat) ({ cls := "QueryHarbor$Store", name := "freight", desc := "()I" } : Jvm.MethodName)) ∈ lw_all := lw_g (lw_at lw_m6 113 rfl) rfl
theorem q1410 : (Jvm.Cond.methodLink "QueryHarbor$Seat" (106 : Nat) ({ cls := "QueryHarbor$Seat", name := "guess", desc := "()I" } : Jvm.MethodName)) ∈ lw_all := lw_g (lw_at lw_m6 126 rfl) rfl
theorem q1507 : (Jvm.Cond.instanceMethod ({ cls := "QueryHarbor$Seat", name := "filter", desc := "()V" } : Jvm.MethodName)) ∈ lw_all := lw_g (lw_at lw_m6 223 rfl) rfl
theorem q1508 : (Jvm.Cond.selects "QueryHarbor$Seat" ({ cls := "QueryHarbor$Seat", name := "filter", desc := "()V" } : Jvm.MethodName) ({ cls := "QueryHarbor$Seat", name := "filter", desc := "()V" } : Jvm.MethodName)) ∈ lw_all := lw_g (lw_at lw_m6 224 rfl) rfl
theorem q1509 : (Jvm.Cond.code ({ cls := "QueryHarbor$Seat", name := "filter", desc := "()V" } : Jvm.MethodName) prog_15_method_4_code (3 : Nat) (Option.none : Option Jvm.ClassFile.FieldType)) ∈ lw_all := lw_g (lw_at lw_m6 225 rfl) rfl
theorem q1510 : (Jvm.Cond.classLink "QueryHarbor$Seat" (109 : Nat) "QueryHarbor$Row") ∈ lw_all := lw_g (lw_at lw_m6 226 rfl) rfl
theorem q1511 : (Jvm.Cond.methodLinkNest "QueryHarbor$Seat" (111 : Nat) ({ cls := "QueryHarbor", name := "holdAll", desc := "(Ljava/util/ArrayList;LQueryHarbor$Row;)Z" } : Jvm.MethodName) "QueryHarbor") ∈ lw_tbl := lw_at lw_m6 227 rfl
theorem q2336 : (Jvm.Cond.castable "QueryHarbor$Seat" "java/lang/Object") ∈ lw_tbl := lw_at lw_m10 92 rfl
theorem in_X14 : ∀ w ∈ wsX140, w ∈ lw_all := lw_in wsX140 [1303, 1305, 1307, 1309, 1311, 1313, 1315, 1317, 1319, 1321, 1323] (by decide +kernel) (by decide +kernel)
/-! QueryHarbor$NoAnswer -/
set_option maxRecDepth 100000
def RX15 : String := "QueryHarbor$NoAnswer"
def TX15 : u_T := fun k => match k with
  | 0 => ("java/lang/Throwable", "cause", "Ljava/lang/Throwable;", false)
  | 1 => ("java/lang/Throwable", "stackTrace", "[Ljava/lang/StackTraceElement;", false)
  | 2 => ("java/lang/Throwable", "suppressedExceptions", "Ljava/util/List;", false)
  | 3 => ("java/lang/Throwable", "detailMessage", "Ljava/lang/String;", false)
  | 4 => ("java/lang/Throwable", "backtrace", "Ljava/lang/Object;", false)
  | _ => ("java/lang/Throwable", "depth", "I", false)
def tyX15 : Nat → FieldType := fun k => match k with
  | 0 => .object "java/lang/Throwable"
  | 1 => .array (.object "java/lang/StackTraceElement")
  | 2 => .object "java/util/List"
  | 3 => .object "java/lang/String"
  | 4 => .object "java/lang/Object"
  | _ => .int
abbrev wsX150 : List Cond := u_ws RX15 TX15 6
theorem nmX15 : ∀ a, a < 6 → ∀ b, b < 6 → a ≠ b → (TX15 a).2.1 ≠ (TX15 b).2.1 := by decide +kernel
theorem tyX15_ok : ∀ k, k < 6 → parseFieldDescriptor (TX15 k).2.2.1 = some (tyX15 k) := by decide +kernel
abbrev cX15_init : ByteArray := prog_12_method_1_code
def yX15_init : MethodName := ⟨RX15, "<init>", "(Ljava/lang/String;Ljava/lang/Exception;)V"⟩
def dkwX15_init_0 : List UInt8 := [42, 43, 44, 183, 0, 1, 177]
abbrev dktX15_init_0 : List UInt8 := dkwX15_init_0 ++ []
theorem dksX15_init_0 : cX15_init.data.toList.drop 0 = dktX15_init_0 := by decide +kernel
theorem dX15_init_0 : decode cX15_init 0 = .ok (.aload_n 0, 1) := dk_42 (dk_at dksX15_init_0 0 rfl rfl)
theorem dX15_init_1 : decode cX15_init 1 = .ok (.aload_n 1, 1) := dk_43 (dk_at dksX15_init_0 1 rfl rfl)
theorem dX15_init_2 : decode cX15_init 2 = .ok (.aload_n 2, 1) := dk_44 (dk_at dksX15_init_0 2 rfl rfl)
theorem dX15_init_3 : decode cX15_init 3 = .ok (.invokespecial 1, 3) := dk_183 0 1 (dk_at dksX15_init_0 3 rfl rfl)
theorem dX15_init_6 : decode cX15_init 6 = .ok (.return_, 1) := dk_177 (dk_at dksX15_init_0 6 rfl rfl)
theorem q123 : (Jvm.Cond.initialized "QueryHarbor$NoAnswer") ∈ lw_all := lw_g (lw_at lw_m1 39 rfl) rfl
theorem q430 : (Jvm.Cond.selects "QueryHarbor$NoAnswer" ({ cls := "java/lang/Throwable", name := "fillInStackTrace", desc := "()Ljava/lang/Throwable;" } : Jvm.MethodName) ({ cls := "java/lang/Throwable", name := "fillInStackTrace", desc := "()Ljava/lang/Throwable;" } : Jvm.MethodName)) ∈ lw_all := lw_g (lw_at lw_m2 106 rfl) rfl
theorem q933 : (Jvm.Cond.selects "QueryHarbor$NoAnswer" ({ cls := "java/lang/Object", name := "getClass", desc := "()Ljava/lang/Class;" } : Jvm.MethodName) ({ cls := "java/lang/Object", name := "getClass", desc := "()Ljava/lang/Class;" } : Jvm.MethodName)) ∈ lw_all := lw_g (lw_at lw_m4 129 rfl) rfl
theorem q1429 : (Jvm.Cond.instantiable "QueryHarbor$NoAnswer" (6 : Nat)) ∈ lw_all := lw_g (lw_at lw_m6 145 rfl) rfl
theorem q1430 : (Jvm.Cond.castable "QueryHarbor$NoAnswer" "QueryHarbor$NoAnswer") ∈ lw_tbl := lw_at lw_m6 146 rfl
theorem q1431 : (Jvm.Cond.selects "QueryHarbor$NoAnswer" ({ cls := "java/lang/Throwable", name := "fillInStackTrace", desc := "(I)Ljava/lang/Throwable;" } : Jvm.MethodName) ({ cls := "java/lang/Throwable", name := "fillInStackTrace", desc := "(I)Ljava/lang/Throwable;" } : Jvm.MethodName)) ∈ lw_all := lw_g (lw_at lw_m6 147 rfl) rfl
theorem q1432 : (Jvm.Cond.lays "QueryHarbor$NoAnswer" "java/lang/Throwable" "cause" "Ljava/lang/Throwable;") ∈ lw_all := lw_g (lw_at lw_m6 148 rfl) rfl
theorem q1433 : (Jvm.Cond.lays "QueryHarbor$NoAnswer" "java/lang/Throwable" "stackTrace" "[Ljava/lang/StackTraceElement;") ∈ lw_all := lw_g (lw_at lw_m6 149 rfl) rfl
theorem q1434 : (Jvm.Cond.lays "QueryHarbor$NoAnswer" "java/lang/Throwable" "suppressedExceptions" "Ljava/util/List;") ∈ lw_all := lw_g (lw_at lw_m6 150 rfl) rfl
theorem q1435 : (Jvm.Cond.lays "QueryHarbor$NoAnswer" "java/lang/Throwable" "detailMessage" "Ljava/lang/String;") ∈ lw_all := lw_g (lw_at lw_m6 151 rfl) rfl
theorem q1436 : (Jvm.Cond.lays "QueryHarbor$NoAnswer" "java/lang/Throwable" "backtrace" "Ljava/lang/Object;") ∈ lw_all := lw_g (lw_at lw_m6 152 rfl) rfl
theorem q1439 : (Jvm.Cond.instanceMethod ({ cls := "QueryHarbor$NoAnswer", name := "<init>", desc := "(Ljava/lang/String;Ljava/lang/Exception;)V" } : Jvm.MethodName)) ∈ lw_all := lw_g (lw_at lw_m6 155 rfl) rfl
theorem q1440 : (Jvm.Cond.code ({ cls := "QueryHarbor$NoAnswer", name := "<init>", desc := "(Ljava/lang/String;Ljava/lang/Exception;)V" } : Jvm.MethodName) prog_12_method_1_code (3 : Nat) (Option.none : Option Jvm.ClassFile.FieldType)) ∈ lw_all := lw_g (lw_at lw_m6 156 rfl) rfl
theorem q1441 : (Jvm.Cond.methodLink "QueryHarbor$NoAnswer" (1 : Nat) ({ cls := "java/lang/Exception", name := "<init>", desc := "(Ljava/lang/String;Ljava/lang/Throwable;)V" } : Jvm.MethodName)) ∈ lw_all := lw_g (lw_at lw_m6 157 rfl) rfl
theorem q1447 : (Jvm.Cond.lays "QueryHarbor$NoAnswer" "java/lang/Throwable" "depth" "I") ∈ lw_all := lw_g (lw_at lw_m6 163 rfl) rfl
theorem q1448 : (Jvm.Cond.superclass "QueryHarbor$NoAnswer" "java/lang/Exception") ∈ lw_all := lw_g (lw_at lw_m6 164 rfl) rfl
theorem q2356 : (Jvm.Cond.castable "QueryHarbor$NoAnswer" "java/lang/Object") ∈ lw_tbl := lw_at lw_m10 112 rfl
theorem in_X15 : ∀ w ∈ wsX150, w ∈ lw_all := lw_in wsX150 [1432, 1433, 1434, 1435, 1436, 1447] (by decide +kernel) (by decide +kernel)
/-! QueryHarbor$Failed -/
set_option maxRecDepth 100000
def RX16 : String := "QueryHarbor$Failed"
def TX16 : u_T := fun k => match k with
  | 0 => ("java/lang/Throwable", "cause", "Ljava/lang/Throwable;", false)
  | 1 => ("java/lang/Throwable", "stackTrace", "[Ljava/lang/StackTraceElement;", false)
  | 2 => ("java/lang/Throwable", "suppressedExceptions", "Ljava/util/List;", false)
  | 3 => ("java/lang/Throwable", "detailMessage", "Ljava/lang/String;", false)
  | 4 => ("java/lang/Throwable", "backtrace", "Ljava/lang/Object;", false)
  | _ => ("java/lang/Throwable", "depth", "I", false)
def tyX16 : Nat → FieldType := fun k => match k with
  | 0 => .object "java/lang/Throwable"
  | 1 => .array (.object "java/lang/StackTraceElement")
  | 2 => .object "java/util/List"
  | 3 => .object "java/lang/String"
  | 4 => .object "java/lang/Object"
  | _ => .int
abbrev wsX160 : List Cond := u_ws RX16 TX16 6
theorem nmX16 : ∀ a, a < 6 → ∀ b, b < 6 → a ≠ b → (TX16 a).2.1 ≠ (TX16 b).2.1 := by decide +kernel
theorem tyX16_ok : ∀ k, k < 6 → parseFieldDescriptor (TX16 k).2.2.1 = some (tyX16 k) := by decide +kernel
abbrev cX16_init : ByteArray := prog_7_method_1_code
def yX16_init : MethodName := ⟨RX16, "<init>", "(Ljava/lang/String;)V"⟩
def dkwX16_init_0 : List UInt8 := [42, 43, 183, 0, 1, 177]
abbrev dktX16_init_0 : List UInt8 := dkwX16_init_0 ++ []
theorem dksX16_init_0 : cX16_init.data.toList.drop 0 = dktX16_init_0 := by decide +kernel
theorem dX16_init_0 : decode cX16_init 0 = .ok (.aload_n 0, 1) := dk_42 (dk_at dksX16_init_0 0 rfl rfl)
theorem dX16_init_1 : decode cX16_init 1 = .ok (.aload_n 1, 1) := dk_43 (dk_at dksX16_init_0 1 rfl rfl)
theorem dX16_init_2 : decode cX16_init 2 = .ok (.invokespecial 1, 3) := dk_183 0 1 (dk_at dksX16_init_0 2 rfl rfl)
theorem dX16_init_5 : decode cX16_init 5 = .ok (.return_, 1) := dk_177 (dk_at dksX16_init_0 5 rfl rfl)
theorem q124 : (Jvm.Cond.initialized "QueryHarbor$Failed") ∈ lw_all := lw_g (lw_at lw_m1 40 rfl) rfl
theorem q429 : (Jvm.Cond.selects "QueryHarbor$Failed" ({ cls := "java/lang/Throwable", name := "fillInStackTrace", desc := "()Ljava/lang/Throwable;" } : Jvm.MethodName) ({ cls := "java/lang/Throwable", name := "fillInStackTrace", desc := "()Ljava/lang/Throwable;" } : Jvm.MethodName)) ∈ lw_all := lw_g (lw_at lw_m2 105 rfl) rfl
theorem q928 : (Jvm.Cond.selects "QueryHarbor$Failed" ({ cls := "java/lang/Object", name := "getClass", desc := "()Ljava/lang/Class;" } : Jvm.MethodName) ({ cls := "java/lang/Object", name := "getClass", desc := "()Ljava/lang/Class;" } : Jvm.MethodName)) ∈ lw_all := lw_g (lw_at lw_m4 124 rfl) rfl
theorem q1449 : (Jvm.Cond.instantiable "QueryHarbor$Failed" (6 : Nat)) ∈ lw_all := lw_g (lw_at lw_m6 165 rfl) rfl
theorem q1450 : (Jvm.Cond.castable "QueryHarbor$Failed" "QueryHarbor$Failed") ∈ lw_tbl := lw_at lw_m6 166 rfl
theorem q1451 : (Jvm.Cond.selects "QueryHarbor$Failed" ({ cls := "java/lang/Throwable", name := "fillInStackTrace", desc := "(I)Ljava/lang/Throwable;" } : Jvm.MethodName) ({ cls := "java/lang/Throwable", name := "fillInStackTrace", desc := "(I)Ljava/lang/Throwable;" } : Jvm.MethodName)) ∈ lw_all := lw_g (lw_at lw_m6 167 rfl) rfl
theorem q1452 : (Jvm.Cond.lays "QueryHarbor$Failed" "java/lang/Throwable" "cause" "Ljava/lang/Throwable;") ∈ lw_all := lw_g (lw_at lw_m6 168 rfl) rfl
theorem q1453 : (Jvm.Cond.lays "QueryHarbor$Failed" "java/lang/Throwable" "stackTrace" "[Ljava/lang/StackTraceElement;") ∈ lw_all := lw_g (lw_at lw_m6 169 rfl) rfl
theorem q1454 : (Jvm.Cond.lays "QueryHarbor$Failed" "java/lang/Throwable" "suppressedExceptions" "Ljava/util/List;") ∈ lw_all := lw_g (lw_at lw_m6 170 rfl) rfl
theorem q1455 : (Jvm.Cond.lays "QueryHarbor$Failed" "java/lang/Throwable" "detailMessage" "Ljava/lang/String;") ∈ lw_all := lw_g (lw_at lw_m6 171 rfl) rfl
theorem q1456 : (Jvm.Cond.lays "QueryHarbor$Failed" "java/lang/Throwable" "backtrace" "Ljava/lang/Object;") ∈ lw_all := lw_g (lw_at lw_m6 172 rfl) rfl
theorem q1459 : (Jvm.Cond.instanceMethod ({ cls := "QueryHarbor$Failed", name := "<init>", desc := "(Ljava/lang/String;)V" } : Jvm.MethodName)) ∈ lw_all := lw_g (lw_at lw_m6 175 rfl) rfl
theorem q1460 : (Jvm.Cond.code ({ cls := "QueryHarbor$Failed", name := "<init>", desc := "(Ljava/lang/String;)V" } : Jvm.MethodName) prog_7_method_1_code (2 : Nat) (Option.none : Option Jvm.ClassFile.FieldType)) ∈ lw_all := lw_g (lw_at lw_m6 176 rfl) rfl
theorem q1461 : (Jvm.Cond.methodLink "QueryHarbor$Failed" (1 : Nat) ({ cls := "java/lang/Exception", name := "<init>", desc := "(Ljava/lang/String;)V" } : Jvm.MethodName)) ∈ lw_all := lw_g (lw_at lw_m6 177 rfl) rfl
theorem q1462 : (Jvm.Cond.lays "QueryHarbor$Failed" "java/lang/Throwable" "depth" "I") ∈ lw_all := lw_g (lw_at lw_m6 178 rfl) rfl
theorem q1463 : (Jvm.Cond.superclass "QueryHarbor$Failed" "java/lang/Exception") ∈ lw_all := lw_g (lw_at lw_m6 179 rfl) rfl
theorem q2357 : (Jvm.Cond.castable "QueryHarbor$Failed" "java/lang/Object") ∈ lw_tbl := lw_at lw_m10 113 rfl
theorem in_X16 : ∀ w ∈ wsX160, w ∈ lw_all := lw_in wsX160 [1452, 1453, 1454, 1455, 1456, 1462] (by decide +kernel) (by decide +kernel)
/-! QueryHarbor$Entry -/
set_option maxRecDepth 100000
def RX17 : String := "QueryHarbor$Entry"
def TX17 : u_T := fun k => match k with
  | 0 => ("QueryHarbor$Entry", "source", "LQueryHarbor$Source;", true)
  | 1 => ("QueryHarbor$Entry", "conditions", "Ljava/util/ArrayList;", true)
  | 2 => ("QueryHarbor$Entry", "rows", "Ljava/util/ArrayList;", true)
  | 3 => ("QueryHarbor$Entry", "tick", "I", true)
  | _ => ("QueryHarbor$Entry", "moment", "I", true)
def tyX17 : Nat → FieldType := fun k => match k with
  | 0 => .object "QueryHarbor$Source"
  | 1 => .object "java/util/ArrayList"
  | 2 => .object "java/util/ArrayList"
  | 3 => .int
  | _ => .int
abbrev wsX170 : List Cond := u_ws RX17 TX17 5
theorem nmX17 : ∀ a, a < 5 → ∀ b, b < 5 → a ≠ b → (TX17 a).2.1 ≠ (TX17 b).2.1 := by decide +kernel
theorem tyX17_ok : ∀ k, k < 5 → parseFieldDescriptor (TX17 k).2.2.1 = some (tyX17 k) := by decide +kernel
abbrev cX17_init : ByteArray := prog_6_method_1_code
def yX17_init : MethodName := ⟨RX17, "<init>", "(LQueryHarbor$Source;Ljava/util/ArrayList;Ljava/util/ArrayList;II)V"⟩
def dkwX17_init_1 : List UInt8 := [181, 0, 20, 42, 21, 5, 181, 0, 24, 177]
abbrev dktX17_init_1 : List UInt8 := dkwX17_init_1 ++ []
def dkwX17_init_0 : List UInt8 := [42, 183, 0, 1, 42, 43, 181, 0, 7, 42, 44, 181, 0, 13, 42, 45, 181, 0, 17, 42, 21, 4]
abbrev dktX17_init_0 : List UInt8 := dkwX17_init_0 ++ dktX17_init_1
theorem dksX17_init_0 : cX17_init.data.toList.drop 0 = dktX17_init_0 := by decide +kernel
theorem dksX17_init_1 : cX17_init.data.toList.drop 22 = dktX17_init_1 := dk_seg dksX17_init_0 22 rfl rfl
theorem dX17_init_0 : decode cX17_init 0 = .ok (.aload_n 0, 1) := dk_42 (dk_at dksX17_init_0 0 rfl rfl)
theorem dX17_init_1 : decode cX17_init 1 = .ok (.invokespecial 1, 3) := dk_183 0 1 (dk_at dksX17_init_0 1 rfl rfl)
theorem dX17_init_4 : decode cX17_init 4 = .ok (.aload_n 0, 1) := dk_42 (dk_at dksX17_init_0 4 rfl rfl)
theorem dX17_init_5 : decode cX17_init 5 = .ok (.aload_n 1, 1) := dk_43 (dk_at dksX17_init_0 5 rfl rfl)
theorem dX17_init_6 : decode cX17_init 6 = .ok (.putfield 7, 3) := dk_181 0 7 (dk_at dksX17_init_0 6 rfl rfl)
theorem dX17_init_9 : decode cX17_init 9 = .ok (.aload_n 0, 1) := dk_42 (dk_at dksX17_init_0 9 rfl rfl)
theorem dX17_init_10 : decode cX17_init 10 = .ok (.aload_n 2, 1) := dk_44 (dk_at dksX17_init_0 10 rfl rfl)
theorem dX17_init_11 : decode cX17_init 11 = .ok (.putfield 13, 3) := dk_181 0 13 (dk_at dksX17_init_0 11 rfl rfl)
theorem dX17_init_14 : decode cX17_init 14 = .ok (.aload_n 0, 1) := dk_42 (dk_at dksX17_init_0 14 rfl rfl)
theorem dX17_init_15 : decode cX17_init 15 = .ok (.aload_n 3, 1) := dk_45 (dk_at dksX17_init_0 15 rfl rfl)
theorem dX17_init_16 : decode cX17_init 16 = .ok (.putfield 17, 3) := dk_181 0 17 (dk_at dksX17_init_0 16 rfl rfl)
theorem dX17_init_19 : decode cX17_init 19 = .ok (.aload_n 0, 1) := dk_42 (dk_at dksX17_init_0 19 rfl rfl)
theorem dX17_init_20 : decode cX17_init 20 = .ok (.iload 4, 2) := dk_21 4 (dk_at dksX17_init_0 20 rfl rfl)
theorem dX17_init_22 : decode cX17_init 22 = .ok (.putfield 20, 3) := dk_181 0 20 (dk_at dksX17_init_1 0 rfl rfl)
theorem dX17_init_25 : decode cX17_init 25 = .ok (.aload_n 0, 1) := dk_42 (dk_at dksX17_init_1 3 rfl rfl)
theorem dX17_init_26 : decode cX17_init 26 = .ok (.iload 5, 2) := dk_21 5 (dk_at dksX17_init_1 4 rfl rfl)
theorem dX17_init_28 : decode cX17_init 28 = .ok (.putfield 24, 3) := dk_181 0 24 (dk_at dksX17_init_1 6 rfl rfl)
theorem dX17_init_31 : decode cX17_init 31 = .ok (.return_, 1) := dk_177 (dk_at dksX17_init_1 9 rfl rfl)
theorem q125 : (Jvm.Cond.initialized "QueryHarbor$Entry") ∈ lw_all := lw_g (lw_at lw_m1 41 rfl) rfl
theorem q927 : (Jvm.Cond.selects "QueryHarbor$Entry" ({ cls := "java/lang/Object", name := "getClass", desc := "()Ljava/lang/Class;" } : Jvm.MethodName) ({ cls := "java/lang/Object", name := "getClass", desc := "()Ljava/lang/Class;" } : Jvm.MethodName)) ∈ lw_all := lw_g (lw_at lw_m4 123 rfl) rfl
theorem q1480 : (Jvm.Cond.instantiable "QueryHarbor$Entry" (5 : Nat)) ∈ lw_all := lw_g (lw_at lw_m6 196 rfl) rfl
theorem q1482 : (Jvm.Cond.instanceMethod ({ cls := "QueryHarbor$Entry", name := "<init>", desc := "(LQueryHarbor$Source;Ljava/util/ArrayList;Ljava/util/ArrayList;II)V" } : Jvm.MethodName)) ∈ lw_all := lw_g (lw_at lw_m6 198 rfl) rfl
theorem q1483 : (Jvm.Cond.code ({ cls := "QueryHarbor$Entry", name := "<init>", desc := "(LQueryHarbor$Source;Ljava/util/ArrayList;Ljava/util/ArrayList;II)V" } : Jvm.MethodName) prog_6_method_1_code (6 : Nat) (Option.none : Option Jvm.ClassFile.FieldType)) ∈ lw_all := lw_g (lw_at lw_m6 199 rfl) rfl
theorem q1484 : (Jvm.Cond.methodLink "QueryHarbor$Entry" (1 : Nat) ({ cls := "java/lang/Object", name := "<init>", desc := "()V" } : Jvm.MethodName)) ∈ lw_all := lw_g (lw_at lw_m6 200 rfl) rfl
theorem q1485 : (Jvm.Cond.fieldLink "QueryHarbor$Entry" (7 : Nat) "QueryHarbor$Entry" "source" "LQueryHarbor$Source;") ∈ lw_all := lw_g (lw_at lw_m6 201 rfl) rfl
theorem q1487 : (Jvm.Cond.fieldLink "QueryHarbor$Entry" (13 : Nat) "QueryHarbor$Entry" "conditions" "Ljava/util/ArrayList;") ∈ lw_all := lw_g (lw_at lw_m6 203 rfl) rfl
theorem q1489 : (Jvm.Cond.fieldLink "QueryHarbor$Entry" (17 : Nat) "QueryHarbor$Entry" "rows" "Ljava/util/ArrayList;") ∈ lw_all := lw_g (lw_at lw_m6 205 rfl) rfl
theorem q1491 : (Jvm.Cond.fieldLink "QueryHarbor$Entry" (20 : Nat) "QueryHarbor$Entry" "tick" "I") ∈ lw_all := lw_g (lw_at lw_m6 207 rfl) rfl
theorem q1493 : (Jvm.Cond.fieldLink "QueryHarbor$Entry" (24 : Nat) "QueryHarbor$Entry" "moment" "I") ∈ lw_all := lw_g (lw_at lw_m6 209 rfl) rfl
theorem q1495 : (Jvm.Cond.laysFinal "QueryHarbor$Entry" "QueryHarbor$Entry" "source" "LQueryHarbor$Source;") ∈ lw_all := lw_g (lw_at lw_m6 211 rfl) rfl
theorem q1496 : (Jvm.Cond.soleField "QueryHarbor$Entry" "source") ∈ lw_all := lw_g (lw_at lw_m6 212 rfl) rfl
theorem q1497 : (Jvm.Cond.laysFinal "QueryHarbor$Entry" "QueryHarbor$Entry" "conditions" "Ljava/util/ArrayList;") ∈ lw_all := lw_g (lw_at lw_m6 213 rfl) rfl
theorem q1498 : (Jvm.Cond.soleField "QueryHarbor$Entry" "conditions") ∈ lw_all := lw_g (lw_at lw_m6 214 rfl) rfl
theorem q1499 : (Jvm.Cond.laysFinal "QueryHarbor$Entry" "QueryHarbor$Entry" "rows" "Ljava/util/ArrayList;") ∈ lw_all := lw_g (lw_at lw_m6 215 rfl) rfl
theorem q1500 : (Jvm.Cond.soleField "QueryHarbor$Entry" "rows") ∈ lw_all := lw_g (lw_at lw_m6 216 rfl) rfl
theorem q1501 : (Jvm.Cond.laysFinal "QueryHarbor$Entry" "QueryHarbor$Entry" "tick" "I") ∈ lw_all := lw_g (lw_at lw_m6 217 rfl) rfl
theorem q1502 : (Jvm.Cond.soleField "QueryHarbor$Entry" "tick") ∈ lw_all := lw_g (lw_at lw_m6 218 rfl) rfl
theorem q1503 : (Jvm.Cond.laysFinal "QueryHarbor$Entry" "QueryHarbor$Entry" "moment" "I") ∈ lw_all := lw_g (lw_at lw_m6 219 rfl) rfl
theorem q1504 : (Jvm.Cond.soleField "QueryHarbor$Entry" "moment") ∈ lw_all := lw_g (lw_at lw_m6 220 rfl) rfl
theorem q1505 : (Jvm.Cond.superclass "QueryHarbor$Entry" "java/lang/Object") ∈ lw_all := lw_g (lw_at lw_m6 221 rfl) rfl
theorem q2358 : (Jvm.Cond.castable "QueryHarbor$Entry" "java/lang/Object") ∈ lw_tbl := lw_at lw_m10 114 rfl
theorem in_X17 : ∀ w ∈ wsX170, w ∈ lw_all := lw_in wsX170 [1495, 1497, 1499, 1501, 1503] (by decide +kernel) (by decide +kernel)
/-! QueryHarbor$Done -/
set_option maxRecDepth 100000
def RX18 : String := "QueryHarbor$Done"
def TX18 : u_T := fun k => match k with
  | 0 => ("QueryHarbor$Done", "source", "LQueryHarbor$Source;", true)
  | 1 => ("QueryHarbor$Done", "before", "LQueryHarbor$Row;", true)
  | 2 => ("QueryHarbor$Done", "behind", "LQueryHarbor$Row;", true)
  | _ => ("QueryHarbor$Done", "this$0", "LQueryHarbor;", true)
def tyX18 : Nat → FieldType := fun k => match k with
  | 0 => .object "QueryHarbor$Source"
  | 1 => .object "QueryHarbor$Row"
  | 2 => .object "QueryHarbor$Row"
  | _ => .object "QueryHarbor"
abbrev wsX180 : List Cond := u_ws RX18 TX18 4
theorem nmX18 : ∀ a, a < 4 → ∀ b, b < 4 → a ≠ b → (TX18 a).2.1 ≠ (TX18 b).2.1 := by decide +kernel
theorem tyX18_ok : ∀ k, k < 4 → parseFieldDescriptor (TX18 k).2.2.1 = some (tyX18 k) := by decide +kernel
abbrev cX18_init : ByteArray := prog_5_method_1_code
def yX18_init : MethodName := ⟨RX18, "<init>", "(LQueryHarbor;LQueryHarbor$Source;LQueryHarbor$Row;LQueryHarbor$Row;)V"⟩
def dkwX18_init_1 : List UInt8 := [181, 0, 21, 177]
abbrev dktX18_init_1 : List UInt8 := dkwX18_init_1 ++ []
def dkwX18_init_0 : List UInt8 := [42, 43, 181, 0, 1, 42, 183, 0, 7, 42, 44, 181, 0, 13, 42, 45, 181, 0, 17, 42, 25, 4]
abbrev dktX18_init_0 : List UInt8 := dkwX18_init_0 ++ dktX18_init_1
theorem dksX18_init_0 : cX18_init.data.toList.drop 0 = dktX18_init_0 := by decide +kernel
theorem dksX18_init_1 : cX18_init.data.toList.drop 22 = dktX18_init_1 := dk_seg dksX18_init_0 22 rfl rfl
theorem dX18_init_0 : decode cX18_init 0 = .ok (.aload_n 0, 1) := dk_42 (dk_at dksX18_init_0 0 rfl rfl)
theorem dX18_init_1 : decode cX18_init 1 = .ok (.aload_n 1, 1) := dk_43 (dk_at dksX18_init_0 1 rfl rfl)
theorem dX18_init_2 : decode cX18_init 2 = .ok (.putfield 1, 3) := dk_181 0 1 (dk_at dksX18_init_0 2 rfl rfl)
theorem dX18_init_5 : decode cX18_init 5 = .ok (.aload_n 0, 1) := dk_42 (dk_at dksX18_init_0 5 rfl rfl)
theorem dX18_init_6 : decode cX18_init 6 = .ok (.invokespecial 7, 3) := dk_183 0 7 (dk_at dksX18_init_0 6 rfl rfl)
theorem dX18_init_9 : decode cX18_init 9 = .ok (.aload_n 0, 1) := dk_42 (dk_at dksX18_init_0 9 rfl rfl)
theorem dX18_init_10 : decode cX18_init 10 = .ok (.aload_n 2, 1) := dk_44 (dk_at dksX18_init_0 10 rfl rfl)
theorem dX18_init_11 : decode cX18_init 11 = .ok (.putfield 13, 3) := dk_181 0 13 (dk_at dksX18_init_0 11 rfl rfl)
theorem dX18_init_14 : decode cX18_init 14 = .ok (.aload_n 0, 1) := dk_42 (dk_at dksX18_init_0 14 rfl rfl)
theorem dX18_init_15 : decode cX18_init 15 = .ok (.aload_n 3, 1) := dk_45 (dk_at dksX18_init_0 15 rfl rfl)
theorem dX18_init_16 : decode cX18_init 16 = .ok (.putfield 17, 3) := dk_181 0 17 (dk_at dksX18_init_0 16 rfl rfl)
theorem dX18_init_19 : decode cX18_init 19 = .ok (.aload_n 0, 1) := dk_42 (dk_at dksX18_init_0 19 rfl rfl)
theorem dX18_init_20 : decode cX18_init 20 = .ok (.aload 4, 2) := dk_25 4 (dk_at dksX18_init_0 20 rfl rfl)
theorem dX18_init_22 : decode cX18_init 22 = .ok (.putfield 21, 3) := dk_181 0 21 (dk_at dksX18_init_1 0 rfl rfl)
theorem dX18_init_25 : decode cX18_init 25 = .ok (.return_, 1) := dk_177 (dk_at dksX18_init_1 3 rfl rfl)
abbrev cX18_takeBack : ByteArray := prog_5_method_2_code
def yX18_takeBack : MethodName := ⟨RX18, "takeBack", "()V"⟩
def dkwX18_takeBack_2 : List UInt8 := [180, 0, 17, 182, 0, 46, 42, 180, 0, 1, 42, 180, 0, 13, 182, 0, 50, 177]
abbrev dktX18_takeBack_2 : List UInt8 := dkwX18_takeBack_2 ++ []
def dkwX18_takeBack_1 : List UInt8 := [180, 0, 30, 182, 0, 36, 182, 0, 40, 87, 42, 180, 0, 17, 198, 0, 14, 42, 180, 0, 13, 42]
abbrev dktX18_takeBack_1 : List UInt8 := dkwX18_takeBack_1 ++ dktX18_takeBack_2
def dkwX18_takeBack_0 : List UInt8 := [42, 180, 0, 21, 198, 0, 28, 42, 180, 0, 13, 180, 0, 24, 42, 180, 0, 13, 42, 180, 0, 21]
abbrev dktX18_takeBack_0 : List UInt8 := dkwX18_takeBack_0 ++ dktX18_takeBack_1
theorem dksX18_takeBack_0 : cX18_takeBack.data.toList.drop 0 = dktX18_takeBack_0 := by decide +kernel
theorem dksX18_takeBack_1 : cX18_takeBack.data.toList.drop 22 = dktX18_takeBack_1 := dk_seg dksX18_takeBack_0 22 rfl rfl
theorem dksX18_takeBack_2 : cX18_takeBack.data.toList.drop 44 = dktX18_takeBack_2 := dk_seg dksX18_takeBack_1 22 rfl rfl
theorem dX18_takeBack_0 : decode cX18_takeBack 0 = .ok (.aload_n 0, 1) := dk_42 (dk_at dksX18_takeBack_0 0 rfl rfl)
theorem dX18_takeBack_1 : decode cX18_takeBack 1 = .ok (.getfield 21, 3) := dk_180 0 21 (dk_at dksX18_takeBack_0 1 rfl rfl)
theorem dX18_takeBack_4 : decode cX18_takeBack 4 = .ok (.ifnull 28, 3) := dk_198 0 28 (dk_at dksX18_takeBack_0 4 rfl rfl)
theorem dX18_takeBack_7 : decode cX18_takeBack 7 = .ok (.aload_n 0, 1) := dk_42 (dk_at dksX18_takeBack_0 7 rfl rfl)
theorem dX18_takeBack_8 : decode cX18_takeBack 8 = .ok (.getfield 13, 3) := dk_180 0 13 (dk_at dksX18_takeBack_0 8 rfl rfl)
theorem dX18_takeBack_11 : decode cX18_takeBack 11 = .ok (.getfield 24, 3) := dk_180 0 24 (dk_at dksX18_takeBack_0 11 rfl rfl)
theorem dX18_takeBack_14 : decode cX18_takeBack 14 = .ok (.aload_n 0, 1) := dk_42 (dk_at dksX18_takeBack_0 14 rfl rfl)
theorem dX18_takeBack_15 : decode cX18_takeBack 15 = .ok (.getfield 13, 3) := dk_180 0 13 (dk_at dksX18_takeBack_0 15 rfl rfl)
theorem dX18_takeBack_18 : decode cX18_takeBack 18 = .ok (.aload_n 0, 1) := dk_42 (dk_at dksX18_takeBack_0 18 rfl rfl)
theorem dX18_takeBack_19 : decode cX18_takeBack 19 = .ok (.getfield 21, 3) := dk_180 0 21 (dk_at dksX18_takeBack_0 19 rfl rfl)
theorem dX18_takeBack_22 : decode cX18_takeBack 22 = .ok (.getfield 30, 3) := dk_180 0 30 (dk_at dksX18_takeBack_1 0 rfl rfl)
theorem dX18_takeBack_25 : decode cX18_takeBack 25 = .ok (.invokevirtual 36, 3) := dk_182 0 36 (dk_at dksX18_takeBack_1 3 rfl rfl)
theorem dX18_takeBack_28 : decode cX18_takeBack 28 = .ok (.invokevirtual 40, 3) := dk_182 0 40 (dk_at dksX18_takeBack_1 6 rfl rfl)
theorem dX18_takeBack_31 : decode cX18_takeBack 31 = .ok (.pop, 1) := dk_87 (dk_at dksX18_takeBack_1 9 rfl rfl)
theorem dX18_takeBack_32 : decode cX18_takeBack 32 = .ok (.aload_n 0, 1) := dk_42 (dk_at dksX18_takeBack_1 10 rfl rfl)
theorem dX18_takeBack_33 : decode cX18_takeBack 33 = .ok (.getfield 17, 3) := dk_180 0 17 (dk_at dksX18_takeBack_1 11 rfl rfl)
theorem dX18_takeBack_36 : decode cX18_takeBack 36 = .ok (.ifnull 14, 3) := dk_198 0 14 (dk_at dksX18_takeBack_1 14 rfl rfl)
theorem dX18_takeBack_39 : decode cX18_takeBack 39 = .ok (.aload_n 0, 1) := dk_42 (dk_at dksX18_takeBack_1 17 rfl rfl)
theorem dX18_takeBack_40 : decode cX18_takeBack 40 = .ok (.getfield 13, 3) := dk_180 0 13 (dk_at dksX18_takeBack_1 18 rfl rfl)
theorem dX18_takeBack_43 : decode cX18_takeBack 43 = .ok (.aload_n 0, 1) := dk_42 (dk_at dksX18_takeBack_1 21 rfl rfl)
theorem dX18_takeBack_44 : decode cX18_takeBack 44 = .ok (.getfield 17, 3) := dk_180 0 17 (dk_at dksX18_takeBack_2 0 rfl rfl)
theorem dX18_takeBack_47 : decode cX18_takeBack 47 = .ok (.invokevirtual 46, 3) := dk_182 0 46 (dk_at dksX18_takeBack_2 3 rfl rfl)
theorem dX18_takeBack_50 : decode cX18_takeBack 50 = .ok (.aload_n 0, 1) := dk_42 (dk_at dksX18_takeBack_2 6 rfl rfl)
theorem dX18_takeBack_51 : decode cX18_takeBack 51 = .ok (.getfield 1, 3) := dk_180 0 1 (dk_at dksX18_takeBack_2 7 rfl rfl)
theorem dX18_takeBack_54 : decode cX18_takeBack 54 = .ok (.aload_n 0, 1) := dk_42 (dk_at dksX18_takeBack_2 10 rfl rfl)
theorem dX18_takeBack_55 : decode cX18_takeBack 55 = .ok (.getfield 13, 3) := dk_180 0 13 (dk_at dksX18_takeBack_2 11 rfl rfl)
theorem dX18_takeBack_58 : decode cX18_takeBack 58 = .ok (.invokevirtual 50, 3) := dk_182 0 50 (dk_at dksX18_takeBack_2 14 rfl rfl)
theorem dX18_takeBack_61 : decode cX18_takeBack 61 = .ok (.return_, 1) := dk_177 (dk_at dksX18_takeBack_2 17 rfl rfl)
theorem q126 : (Jvm.Cond.initialized "QueryHarbor$Done") ∈ lw_all := lw_g (lw_at lw_m1 42 rfl) rfl
theorem q277 : (Jvm.Cond.fieldLink "QueryHarbor$Done" (24 : Nat) "QueryHarbor$Source" "rows" "Ljava/util/ArrayList;") ∈ lw_all := lw_g (lw_at lw_m1 193 rfl) rfl
theorem q640 : (Jvm.Cond.fieldLink "QueryHarbor$Done" (30 : Nat) "QueryHarbor$Row" "mark" "I") ∈ lw_all := lw_g (lw_at lw_m3 76 rfl) rfl
theorem q926 : (Jvm.Cond.selects "QueryHarbor$Done" ({ cls := "java/lang/Object", name := "getClass", desc := "()Ljava/lang/Class;" } : Jvm.MethodName) ({ cls := "java/lang/Object", name := "getClass", desc := "()Ljava/lang/Class;" } : Jvm.MethodName)) ∈ lw_all := lw_g (lw_at lw_m4 122 rfl) rfl
theorem q1620 : (Jvm.Cond.instantiable "QueryHarbor$Done" (4 : Nat)) ∈ lw_all := lw_g (lw_at lw_m7 96 rfl) rfl
theorem q1625 : (Jvm.Cond.instanceMethod ({ cls := "QueryHarbor$Done", name := "<init>", desc := "(LQueryHarbor;LQueryHarbor$Source;LQueryHarbor$Row;LQueryHarbor$Row;)V" } : Jvm.MethodName)) ∈ lw_all := lw_g (lw_at lw_m7 101 rfl) rfl
theorem q1626 : (Jvm.Cond.code ({ cls := "QueryHarbor$Done", name := "<init>", desc := "(LQueryHarbor;LQueryHarbor$Source;LQueryHarbor$Row;LQueryHarbor$Row;)V" } : Jvm.MethodName) prog_5_method_1_code (5 : Nat) (Option.none : Option Jvm.ClassFile.FieldType)) ∈ lw_all := lw_g (lw_at lw_m7 102 rfl) rfl
theorem q1627 : (Jvm.Cond.methodLink "QueryHarbor$Done" (7 : Nat) ({ cls := "java/lang/Object", name := "<init>", desc := "()V" } : Jvm.MethodName)) ∈ lw_all := lw_g (lw_at lw_m7 103 rfl) rfl
theorem q1628 : (Jvm.Cond.fieldLink "QueryHarbor$Done" (13 : Nat) "QueryHarbor$Done" "source" "LQueryHarbor$Source;") ∈ lw_all := lw_g (lw_at lw_m7 104 rfl) rfl
theorem q1629 : (Jvm.Cond.fieldLink "QueryHarbor$Done" (17 : Nat) "QueryHarbor$Done" "before" "LQueryHarbor$Row;") ∈ lw_all := lw_g (lw_at lw_m7 105 rfl) rfl
theorem q1630 : (Jvm.Cond.fieldLink "QueryHarbor$Done" (21 : Nat) "QueryHarbor$Done" "behind" "LQueryHarbor$Row;") ∈ lw_all := lw_g (lw_at lw_m7 106 rfl) rfl
theorem q1631 : (Jvm.Cond.fieldLink "QueryHarbor$Done" (1 : Nat) "QueryHarbor$Done" "this$0" "LQueryHarbor;") ∈ lw_all := lw_g (lw_at lw_m7 107 rfl) rfl
theorem q1632 : (Jvm.Cond.laysFinal "QueryHarbor$Done" "QueryHarbor$Done" "source" "LQueryHarbor$Source;") ∈ lw_all := lw_g (lw_at lw_m7 108 rfl) rfl
theorem q1633 : (Jvm.Cond.soleField "QueryHarbor$Done" "source") ∈ lw_all := lw_g (lw_at lw_m7 109 rfl) rfl
theorem q1634 : (Jvm.Cond.laysFinal "QueryHarbor$Done" "QueryHarbor$Done" "before" "LQueryHarbor$Row;") ∈ lw_all := lw_g (lw_at lw_m7 110 rfl) rfl
theorem q1635 : (Jvm.Cond.soleField "QueryHarbor$Done" "before") ∈ lw_all := lw_g (lw_at lw_m7 111 rfl) rfl
theorem q1636 : (Jvm.Cond.laysFinal "QueryHarbor$Done" "QueryHarbor$Done" "behind" "LQueryHarbor$Row;") ∈ lw_all := lw_g (lw_at lw_m7 112 rfl) rfl
theorem q1637 : (Jvm.Cond.soleField "QueryHarbor$Done" "behind") ∈ lw_all := lw_g (lw_at lw_m7 113 rfl) rfl
theorem q1638 : (Jvm.Cond.laysFinal "QueryHarbor$Done" "QueryHarbor$Done" "this$0" "LQueryHarbor;") ∈ lw_all := lw_g (lw_at lw_m7 114 rfl) rfl
theorem q1639 : (Jvm.Cond.soleField "QueryHarbor$Done" "this$0") ∈ lw_all := lw_g (lw_at lw_m7 115 rfl) rfl
theorem q1640 : (Jvm.Cond.superclass "QueryHarbor$Done" "java/lang/Object") ∈ lw_all := lw_g (lw_at lw_m7 116 rfl) rfl
theorem q1644 : (Jvm.Cond.instanceMethod ({ cls := "QueryHarbor$Done", name := "takeBack", desc := "()V" } : Jvm.MethodName)) ∈ lw_all := lw_g (lw_at lw_m7 120 rfl) rfl
theorem q1645 : (Jvm.Cond.selects "QueryHarbor$Done" ({ cls := "QueryHarbor$Done", name := "takeBack", desc := "()V" } : Jvm.MethodName) ({ cls := "QueryHarbor$Done", name := "takeBack", desc := "()V" } : Jvm.MethodName)) ∈ lw_all := lw_g (lw_at lw_m7 121 rfl) rfl
theorem q1646 : (Jvm.Cond.code ({ cls := "QueryHarbor$Done", name := "takeBack", desc := "()V" } : Jvm.MethodName) prog_5_method_2_code (1 : Nat) (Option.none : Option Jvm.ClassFile.FieldType)) ∈ lw_all := lw_g (lw_at lw_m7 122 rfl) rfl
theorem q1647 : (Jvm.Cond.methodLink "QueryHarbor$Done" (36 : Nat) ({ cls := "QueryHarbor$Source", name := "placeOf", desc := "(I)I" } : Jvm.MethodName)) ∈ lw_all := lw_g (lw_at lw_m7 123 rfl) rfl
theorem q1648 : (Jvm.Cond.methodLink "QueryHarbor$Done" (40 : Nat) ({ cls := "java/util/ArrayList", name := "remove", desc := "(I)Ljava/lang/Object;" } : Jvm.MethodName)) ∈ lw_all := lw_g (lw_at lw_m7 124 rfl) rfl
theorem q1649 : (Jvm.Cond.methodLink "QueryHarbor$Done" (46 : Nat) ({ cls := "QueryHarbor$Source", name := "lay", desc := "(LQueryHarbor$Row;)V" } : Jvm.MethodName)) ∈ lw_all := lw_g (lw_at lw_m7 125 rfl) rfl
theorem q1650 : (Jvm.Cond.methodLinkNest "QueryHarbor$Done" (50 : Nat) ({ cls := "QueryHarbor", name := "written", desc := "(LQueryHarbor$Source;)V" } : Jvm.MethodName) "QueryHarbor") ∈ lw_tbl := lw_at lw_m7 126 rfl
theorem q2359 : (Jvm.Cond.castable "QueryHarbor$Done" "java/lang/Object") ∈ lw_tbl := lw_at lw_m10 115 rfl
theorem in_X18 : ∀ w ∈ wsX180, w ∈ lw_all := lw_in wsX180 [1632, 1634, 1636, 1638] (by decide +kernel) (by decide +kernel)
/-! QueryHarbor$Store -/
set_option maxRecDepth 100000
def RX19 : String := "QueryHarbor$Store"
abbrev cX19_isFit : ByteArray := prog_17_method_5_code
def yX19_isFit : MethodName := ⟨RX19, "isFit", "(II)Z"⟩
def dkwX19_isFit_0 : List UInt8 := [28, 184, 0, 3, 154, 0, 10, 28, 17, 19, 136, 160, 0, 7, 4, 167, 0, 4, 3, 172]
abbrev dktX19_isFit_0 : List UInt8 := dkwX19_isFit_0 ++ []
theorem dksX19_isFit_0 : cX19_isFit.data.toList.drop 0 = dktX19_isFit_0 := by decide +kernel
theorem dX19_isFit_0 : decode cX19_isFit 0 = .ok (.iload_n 2, 1) := dk_28 (dk_at dksX19_isFit_0 0 rfl rfl)
theorem dX19_isFit_1 : decode cX19_isFit 1 = .ok (.invokestatic 3, 3) := dk_184 0 3 (dk_at dksX19_isFit_0 1 rfl rfl)
theorem dX19_isFit_4 : decode cX19_isFit 4 = .ok (.ifCond .ne 10, 3) := dk_154 0 10 (dk_at dksX19_isFit_0 4 rfl rfl)
theorem dX19_isFit_7 : decode cX19_isFit 7 = .ok (.iload_n 2, 1) := dk_28 (dk_at dksX19_isFit_0 7 rfl rfl)
theorem dX19_isFit_8 : decode cX19_isFit 8 = .ok (.sipush 5000, 3) := dk_17 19 136 (dk_at dksX19_isFit_0 8 rfl rfl)
theorem dX19_isFit_11 : decode cX19_isFit 11 = .ok (.if_icmp .ne 7, 3) := dk_160 0 7 (dk_at dksX19_isFit_0 11 rfl rfl)
theorem dX19_isFit_14 : decode cX19_isFit 14 = .ok (.iconst 1, 1) := dk_4 (dk_at dksX19_isFit_0 14 rfl rfl)
theorem dX19_isFit_15 : decode cX19_isFit 15 = .ok (.goto 4, 3) := dk_167 0 4 (dk_at dksX19_isFit_0 15 rfl rfl)
theorem dX19_isFit_18 : decode cX19_isFit 18 = .ok (.iconst 0, 1) := dk_3 (dk_at dksX19_isFit_0 18 rfl rfl)
theorem dX19_isFit_19 : decode cX19_isFit 19 = .ok (.ireturn, 1) := dk_172 (dk_at dksX19_isFit_0 19 rfl rfl)
abbrev cX19_hasKey : ByteArray := prog_17_method_6_code
def yX19_hasKey : MethodName := ⟨RX19, "hasKey", "()Z"⟩
theorem dX19_hasKey_0 : decode cX19_hasKey 0 = .ok (.iconst 1, 1) := by decide +kernel
theorem dX19_hasKey_1 : decode cX19_hasKey 1 = .ok (.ireturn, 1) := by decide +kernel
abbrev cX19_kept : ByteArray := prog_17_method_7_code
def yX19_kept : MethodName := ⟨RX19, "kept", "(II)I"⟩
theorem dX19_kept_0 : decode cX19_kept 0 = .ok (.iload_n 2, 1) := by decide +kernel
theorem dX19_kept_1 : decode cX19_kept 1 = .ok (.ireturn, 1) := by decide +kernel
abbrev cX19_columns : ByteArray := prog_17_method_3_code
def yX19_columns : MethodName := ⟨RX19, "columns", "()I"⟩
theorem dX19_columns_0 : decode cX19_columns 0 = .ok (.iconst 4, 1) := by decide +kernel
theorem dX19_columns_1 : decode cX19_columns 1 = .ok (.ireturn, 1) := by decide +kernel
abbrev cX19_freight : ByteArray := prog_17_method_2_code
def yX19_freight : MethodName := ⟨RX19, "freight", "()I"⟩
theorem dX19_freight_0 : decode cX19_freight 0 = .ok (.iconst 1, 1) := by decide +kernel
theorem dX19_freight_1 : decode cX19_freight 1 = .ok (.ireturn, 1) := by decide +kernel
theorem q512 : (Jvm.Cond.interfaceMethod "QueryHarbor$Store" "QueryHarbor$Store" "isFit" "(II)Z") ∈ lw_tbl := lw_at lw_m2 188 rfl
theorem q513 : (Jvm.Cond.declares ({ cls := "QueryHarbor$Store", name := "isFit", desc := "(II)Z" } : Jvm.MethodName)) ∈ lw_tbl := lw_at lw_m2 189 rfl
theorem q524 : (Jvm.Cond.instanceMethod ({ cls := "QueryHarbor$Store", name := "isFit", desc := "(II)Z" } : Jvm.MethodName)) ∈ lw_all := lw_g (lw_at lw_m2 200 rfl) rfl
theorem q525 : (Jvm.Cond.code ({ cls := "QueryHarbor$Store", name := "isFit", desc := "(II)Z" } : Jvm.MethodName) prog_17_method_5_code (3 : Nat) (Option.some Jvm.ClassFile.FieldType.boolean)) ∈ lw_all := lw_g (lw_at lw_m2 201 rfl) rfl
theorem q526 : (Jvm.Cond.methodLinkNest "QueryHarbor$Store" (3 : Nat) ({ cls := "QueryHarbor", name := "isNumber", desc := "(I)Z" } : Jvm.MethodName) "QueryHarbor") ∈ lw_tbl := lw_at lw_m2 202 rfl
theorem q539 : (Jvm.Cond.publicMethod ({ cls := "QueryHarbor$Store", name := "isFit", desc := "(II)Z" } : Jvm.MethodName)) ∈ lw_tbl := lw_at lw_m2 215 rfl
theorem q562 : (Jvm.Cond.interfaceMethod "QueryHarbor$Store" "QueryHarbor$Store" "hasKey" "()Z") ∈ lw_tbl := lw_at lw_m2 238 rfl
theorem q563 : (Jvm.Cond.declares ({ cls := "QueryHarbor$Store", name := "hasKey", desc := "()Z" } : Jvm.MethodName)) ∈ lw_tbl := lw_at lw_m2 239 rfl
theorem q565 : (Jvm.Cond.instanceMethod ({ cls := "QueryHarbor$Store", name := "hasKey", desc := "()Z" } : Jvm.MethodName)) ∈ lw_all := lw_g (lw_at lw_m3 1 rfl) rfl
theorem q566 : (Jvm.Cond.publicMethod ({ cls := "QueryHarbor$Store", name := "hasKey", desc := "()Z" } : Jvm.MethodName)) ∈ lw_tbl := lw_at lw_m3 2 rfl
theorem q567 : (Jvm.Cond.code ({ cls := "QueryHarbor$Store", name := "hasKey", desc := "()Z" } : Jvm.MethodName) prog_17_method_6_code (1 : Nat) (Option.some Jvm.ClassFile.FieldType.boolean)) ∈ lw_all := lw_g (lw_at lw_m3 3 rfl) rfl
theorem q615 : (Jvm.Cond.interfaceMethod "QueryHarbor$Store" "QueryHarbor$Store" "kept" "(II)I") ∈ lw_tbl := lw_at lw_m3 51 rfl
theorem q616 : (Jvm.Cond.declares ({ cls := "QueryHarbor$Store", name := "kept", desc := "(II)I" } : Jvm.MethodName)) ∈ lw_tbl := lw_at lw_m3 52 rfl
theorem q618 : (Jvm.Cond.instanceMethod ({ cls := "QueryHarbor$Store", name := "kept", desc := "(II)I" } : Jvm.MethodName)) ∈ lw_all := lw_g (lw_at lw_m3 54 rfl) rfl
theorem q619 : (Jvm.Cond.publicMethod ({ cls := "QueryHarbor$Store", name := "kept", desc := "(II)I" } : Jvm.MethodName)) ∈ lw_tbl := lw_at lw_m3 55 rfl
theorem q620 : (Jvm.Cond.code ({ cls := "QueryHarbor$Store", name := "kept", desc := "(II)I" } : Jvm.MethodName) prog_17_method_7_code (3 : Nat) (Option.some Jvm.ClassFile.FieldType.int)) ∈ lw_all := lw_g (lw_at lw_m3 56 rfl) rfl
theorem q1039 : (Jvm.Cond.interfaceMethod "QueryHarbor$Store" "QueryHarbor$Store" "columns" "()I") ∈ lw_tbl := lw_at lw_m4 235 rfl
theorem q1040 : (Jvm.Cond.declares ({ cls := "QueryHarbor$Store", name := "columns", desc := "()I" } : Jvm.MethodName)) ∈ lw_tbl := lw_at lw_m4 236 rfl
theorem q1042 : (Jvm.Cond.instanceMethod ({ cls := "QueryHarbor$Store", name := "columns", desc := "()I" } : Jvm.MethodName)) ∈ lw_all := lw_g (lw_at lw_m4 238 rfl) rfl
theorem q1043 : (Jvm.Cond.publicMethod ({ cls := "QueryHarbor$Store", name := "columns", desc := "()I" } : Jvm.MethodName)) ∈ lw_tbl := lw_at lw_m4 239 rfl
theorem q1044 : (Jvm.Cond.code ({ cls := "QueryHarbor$Store", name := "columns", desc := "()I" } : Jvm.MethodName) prog_17_method_3_code (1 : Nat) (Option.some Jvm.ClassFile.FieldType.int)) ∈ lw_all := lw_g (lw_at lw_m5 0 rfl) rfl
theorem q1271 : (Jvm.Cond.interfaceMethod "QueryHarbor$Store" "QueryHarbor$Store" "can" "(II)Z") ∈ lw_tbl := lw_at lw_m5 227 rfl
theorem q1272 : (Jvm.Cond.declares ({ cls := "QueryHarbor$Store", name := "can", desc := "(II)Z" } : Jvm.MethodName)) ∈ lw_tbl := lw_at lw_m5 228 rfl
theorem q1379 : (Jvm.Cond.interfaceMethod "QueryHarbor$Store" "QueryHarbor$Store" "fee" "()I") ∈ lw_tbl := lw_at lw_m6 95 rfl
theorem q1380 : (Jvm.Cond.declares ({ cls := "QueryHarbor$Store", name := "fee", desc := "()I" } : Jvm.MethodName)) ∈ lw_tbl := lw_at lw_m6 96 rfl
theorem q1398 : (Jvm.Cond.interfaceMethod "QueryHarbor$Store" "QueryHarbor$Store" "freight" "()I") ∈ lw_tbl := lw_at lw_m6 114 rfl
theorem q1399 : (Jvm.Cond.declares ({ cls := "QueryHarbor$Store", name := "freight", desc := "()I" } : Jvm.MethodName)) ∈ lw_tbl := lw_at lw_m6 115 rfl
theorem q1406 : (Jvm.Cond.instanceMethod ({ cls := "QueryHarbor$Store", name := "freight", desc := "()I" } : Jvm.MethodName)) ∈ lw_all := lw_g (lw_at lw_m6 122 rfl) rfl
theorem q1407 : (Jvm.Cond.publicMethod ({ cls := "QueryHarbor$Store", name := "freight", desc := "()I" } : Jvm.MethodName)) ∈ lw_tbl := lw_at lw_m6 123 rfl
theorem q1408 : (Jvm.Cond.code ({ cls := "QueryHarbor$Store", name := "freight", desc := "()I" } : Jvm.MethodName) prog_17_method_2_code (1 : Nat) (Option.some Jvm.ClassFile.FieldType.int)) ∈ lw_all := lw_g (lw_at lw_m6 124 rfl) rfl
theorem q2332 : (Jvm.Cond.initialized "QueryHarbor$Store") ∈ lw_all := lw_g (lw_at lw_m10 88 rfl) rfl
theorem q733 : (Jvm.Cond.sameMethod "[B" "java/lang/Object" "clone" "()Ljava/lang/Object;") ∈ lw_all := lw_g (lw_at lw_m3 169 rfl) rfl
set_option maxRecDepth 100000
theorem q736 : (Jvm.Cond.selects "[B" ({ cls := "[B", name := "clone", desc := "()Ljava/lang/Object;" } : Jvm.MethodName) ({ cls := "java/lang/Object", name := "clone", desc := "()Ljava/lang/Object;" } : Jvm.MethodName)) ∈ lw_all := lw_g (lw_at lw_m3 172 rfl) rfl
theorem q737 : (Jvm.Cond.castable "[B" "java/lang/Cloneable") ∈ lw_tbl := lw_at lw_m3 173 rfl
theorem q2368 : (Jvm.Cond.castable "[B" "java/lang/Object") ∈ lw_tbl := lw_at lw_m10 124 rfl
theorem q2369 : (Jvm.Cond.castable "[I" "java/lang/Object") ∈ lw_tbl := lw_at lw_m10 125 rfl
set_option maxRecDepth 100000
theorem q2373 : (Jvm.Cond.castable "[J" "java/lang/Object") ∈ lw_tbl := lw_at lw_m10 129 rfl
set_option maxRecDepth 100000
theorem q2364 : (Jvm.Cond.castable "[LQueryHarbor$Line;" "java/lang/Object") ∈ lw_tbl := lw_at lw_m10 120 rfl
set_option maxRecDepth 100000
theorem q2372 : (Jvm.Cond.castable "[LQueryHarbor$Row;" "java/lang/Object") ∈ lw_tbl := lw_at lw_m10 128 rfl
set_option maxRecDepth 100000
theorem q2371 : (Jvm.Cond.castable "[LQueryHarbor$Seat;" "java/lang/Object") ∈ lw_tbl := lw_at lw_m10 127 rfl
set_option maxRecDepth 100000
theorem q2365 : (Jvm.Cond.castable "[LQueryHarbor$Source;" "java/lang/Object") ∈ lw_tbl := lw_at lw_m10 121 rfl
set_option maxRecDepth 100000
theorem q2361 : (Jvm.Cond.sameMethod "[Ljava/lang/Object;" "java/lang/Object" "getClass" "()Ljava/lang/Class;") ∈ lw_all := lw_g (lw_at lw_m10 117 rfl) rfl
set_option maxRecDepth 100000
theorem q2362 : (Jvm.Cond.selects "[Ljava/lang/Object;" ({ cls := "java/lang/Object", name := "getClass", desc := "()Ljava/lang/Class;" } : Jvm.MethodName) ({ cls := "java/lang/Object", name := "getClass", desc := "()Ljava/lang/Class;" } : Jvm.MethodName)) ∈ lw_all := lw_g (lw_at lw_m10 118 rfl) rfl
theorem q2370 : (Jvm.Cond.castable "[Ljava/lang/Object;" "java/lang/Object") ∈ lw_tbl := lw_at lw_m10 126 rfl
theorem q2367 : (Jvm.Cond.castable "[Z" "java/lang/Object") ∈ lw_tbl := lw_at lw_m10 123 rfl
set_option maxRecDepth 100000
theorem q2366 : (Jvm.Cond.castable "[[Z" "java/lang/Object") ∈ lw_tbl := lw_at lw_m10 122 rfl
set_option maxRecDepth 100000
theorem q117 : (Jvm.Cond.initialized "java/lang/Integer$IntegerCache") ∈ lw_all := lw_g (lw_at lw_m1 33 rfl) rfl
set_option maxRecDepth 100000
theorem q966 : (Jvm.Cond.laysStatic "java/lang/Integer$IntegerCache" "high" "I") ∈ lw_tbl := lw_at lw_m4 162 rfl
theorem q968 : (Jvm.Cond.laysStatic "java/lang/Integer$IntegerCache" "cache" "[Ljava/lang/Integer;") ∈ lw_tbl := lw_at lw_m4 164 rfl
theorem q113 : (Jvm.Cond.initialized "java/lang/System") ∈ lw_all := lw_g (lw_at lw_m1 29 rfl) rfl
set_option maxRecDepth 100000
theorem q741 : (Jvm.Cond.static ({ cls := "java/lang/System", name := "arraycopy", desc := "(Ljava/lang/Object;ILjava/lang/Object;II)V" } : Jvm.MethodName)) ∈ lw_all := lw_g (lw_at lw_m3 177 rfl) rfl
theorem q742 : (Jvm.Cond.native ({ cls := "java/lang/System", name := "arraycopy", desc := "(Ljava/lang/Object;ILjava/lang/Object;II)V" } : Jvm.MethodName)) ∈ lw_all := lw_g (lw_at lw_m3 178 rfl) rfl
theorem q136 : (Jvm.Cond.arrayOver (Jvm.ClassFile.FieldType.object "QueryHarbor$Line")) ∈ lw_tbl := lw_at lw_m1 52 rfl
set_option maxRecDepth 100000
theorem q201 : (Jvm.Cond.arrayOver (Jvm.ClassFile.FieldType.object "QueryHarbor$Source")) ∈ lw_tbl := lw_at lw_m1 117 rfl
theorem q203 : (Jvm.Cond.arrayOver (Jvm.ClassFile.FieldType.array Jvm.ClassFile.FieldType.boolean)) ∈ lw_tbl := lw_at lw_m1 119 rfl
theorem q230 : (Jvm.Cond.arrayClass Jvm.ClassFile.FieldType.boolean) ∈ lw_all := lw_g (lw_at lw_m1 146 rfl) rfl
theorem q479 : (Jvm.Cond.arrayClass Jvm.ClassFile.FieldType.byte) ∈ lw_all := lw_g (lw_at lw_m2 155 rfl) rfl
theorem q559 : (Jvm.Cond.arrayClass Jvm.ClassFile.FieldType.int) ∈ lw_all := lw_g (lw_at lw_m2 235 rfl) rfl
theorem q953 : (Jvm.Cond.arrayOver (Jvm.ClassFile.FieldType.object "java/lang/Object")) ∈ lw_tbl := lw_at lw_m4 149 rfl
theorem q1255 : (Jvm.Cond.arrayOver (Jvm.ClassFile.FieldType.object "QueryHarbor$Seat")) ∈ lw_tbl := lw_at lw_m5 211 rfl
theorem q1527 : (Jvm.Cond.arrayOver (Jvm.ClassFile.FieldType.object "QueryHarbor$Row")) ∈ lw_tbl := lw_at lw_m7 3 rfl
theorem q2321 : (Jvm.Cond.arrayClass Jvm.ClassFile.FieldType.long) ∈ lw_all := lw_g (lw_at lw_m10 77 rfl) rfl
