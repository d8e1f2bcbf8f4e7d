/-! DECODE ROWS BY BYTES: one lemma an opcode; a method's code is cut into short pieces once, and a row reads its own piece alone. -/
set_option maxRecDepth 100000
/-- the code has just these bytes from pc on -/
def DkAt (code : ByteArray) (pc : Nat) (bs : List UInt8) : Prop := ∀ (j : Nat) (b : UInt8), bs[j]? = some b → code.data.toList[pc + j]? = some b
/-- the piece W has the bytes bs from its place j on -/
def dkIn (W : List UInt8) (j : Nat) (bs : List UInt8) : Bool := decide ((W.drop j).take bs.length = bs)
theorem dk_seg {l W T : List UInt8} {o o2 : Nat} (h : l.drop o = W ++ T) (n : Nat) (hn : W.length = n) (ho : o + n = o2) : l.drop o2 = T := by
  subst ho
  rw [← List.drop_drop, h, List.drop_left' hn]
theorem dk_at {code : ByteArray} {W T bs : List UInt8} {o pc : Nat} (h : code.data.toList.drop o = W ++ T) (j : Nat) (hp : o + j = pc) (hw : dkIn W j bs = true) : DkAt code pc bs := by
  subst hp
  intro i b e
  have h1 := of_decide_eq_true hw
  have h2 : i < bs.length := (List.getElem?_eq_some_iff.mp e).1
  have h3 : W[j + i]? = some b := by
    rw [← h1, List.getElem?_take, if_pos h2, List.getElem?_drop] at e
    exact e
  have h4 : j + i < W.length := (List.getElem?_eq_some_iff.mp h3).1
  have h5 : (code.data.toList.drop o)[j + i]? = some b := by
    rw [h, List.getElem?_append_left h4]
    exact h3
  rw [List.getElem?_drop, ← Nat.add_assoc] at h5
  exact h5
theorem dk_u1 {A : ByteArray} {p : Nat} {b : UInt8} (h : A.data.toList[p]? = some b) : (Reader.u1 : Reader DecodeError Nat) A p = .ok (b.toNat, p + 1) := by
  obtain ⟨h1, h2⟩ := List.getElem?_eq_some_iff.mp h
  have h3 : p < A.size := by simpa using h1
  have h4 : A[p]'h3 = b := h2
  have e : (Reader.u1 : Reader DecodeError Nat) A p = (if h : p < A.size then .ok (A[p].toNat, p + 1) else .error (HasTruncated.truncated p)) := by
    show (do if h : p < A.size then do set (p + 1); Pure.pure A[p].toNat else MonadExcept.throw (HasTruncated.truncated p) : Reader DecodeError Nat) A p = _
    by_cases hi : p < A.size
    · rw [dif_pos hi, dif_pos hi]; rfl
    · rw [dif_neg hi, dif_neg hi]; rfl
  rw [e, dif_pos h3, h4]
theorem dk_bind {α β : Type} {r : Reader DecodeError α} {f : α → Reader DecodeError β} {A : ByteArray} {p s : Nat} {a : α} (h : r A p = .ok (a, s)) : (r >>= f) A p = f a A s := by
  show (do let (a, s) ← r A p; f a A s : Except DecodeError (β × Nat)) = _
  rw [h]
  rfl
theorem dk_map {α β : Type} {r : Reader DecodeError α} {g : α → β} {A : ByteArray} {p s : Nat} {a : α} (h : r A p = .ok (a, s)) : (g <$> r) A p = .ok (g a, s) := by
  show (do let (a, s) ← r A p; .ok (g a, s) : Except DecodeError (β × Nat)) = _
  rw [h]
  rfl
theorem dk_u2 {A : ByteArray} {p : Nat} {a b : UInt8} (h : A.data.toList[p]? = some a) (h2 : A.data.toList[p + 1]? = some b) : (Reader.u2 : Reader DecodeError Nat) A p = .ok (a.toNat * 256 + b.toNat, p + 2) := by
  show (Reader.u1 >>= fun hi => Reader.u1 >>= fun lo => Pure.pure (hi * 256 + lo) : Reader DecodeError Nat) A p = _
  rw [dk_bind (dk_u1 h), dk_bind (dk_u1 h2)]
  rfl
theorem dk_of {code : ByteArray} {pc n : Nat} {i : Instr} (h : Decoder.instr pc code pc = .ok (i, pc + n)) : decode code pc = .ok (i, n) := by
  have e : decode code pc = (match Decoder.instr pc code pc with | .error x => .error x | .ok (j, s) => .ok (j, s - pc)) := by
    show (do let (j, s) ← Decoder.instr pc code pc; Pure.pure (j, s - pc) : Except DecodeError (Instr × Nat)) = _
    cases Decoder.instr pc code pc <;> rfl
  rw [e, h]
  show Except.ok (i, pc + n - pc) = _
  rw [Nat.add_sub_cancel_left]
theorem dk_1 {code : ByteArray} {pc : Nat} (h : DkAt code pc [1]) : decode code pc = .ok (.aconst_null, 1) := dk_of ((dk_bind (dk_u1 (h 0 _ rfl))).trans rfl)
theorem dk_2 {code : ByteArray} {pc : Nat} (h : DkAt code pc [2]) : decode code pc = .ok (.iconst (-1), 1) := dk_of ((dk_bind (dk_u1 (h 0 _ rfl))).trans rfl)
theorem dk_3 {code : ByteArray} {pc : Nat} (h : DkAt code pc [3]) : decode code pc = .ok (.iconst 0, 1) := dk_of ((dk_bind (dk_u1 (h 0 _ rfl))).trans rfl)
theorem dk_4 {code : ByteArray} {pc : Nat} (h : DkAt code pc [4]) : decode code pc = .ok (.iconst 1, 1) := dk_of ((dk_bind (dk_u1 (h 0 _ rfl))).trans rfl)
theorem dk_5 {code : ByteArray} {pc : Nat} (h : DkAt code pc [5]) : decode code pc = .ok (.iconst 2, 1) := dk_of ((dk_bind (dk_u1 (h 0 _ rfl))).trans rfl)
theorem dk_6 {code : ByteArray} {pc : Nat} (h : DkAt code pc [6]) : decode code pc = .ok (.iconst 3, 1) := dk_of ((dk_bind (dk_u1 (h 0 _ rfl))).trans rfl)
theorem dk_7 {code : ByteArray} {pc : Nat} (h : DkAt code pc [7]) : decode code pc = .ok (.iconst 4, 1) := dk_of ((dk_bind (dk_u1 (h 0 _ rfl))).trans rfl)
theorem dk_8 {code : ByteArray} {pc : Nat} (h : DkAt code pc [8]) : decode code pc = .ok (.iconst 5, 1) := dk_of ((dk_bind (dk_u1 (h 0 _ rfl))).trans rfl)
theorem dk_9 {code : ByteArray} {pc : Nat} (h : DkAt code pc [9]) : decode code pc = .ok (.lconst 0, 1) := dk_of ((dk_bind (dk_u1 (h 0 _ rfl))).trans rfl)
theorem dk_10 {code : ByteArray} {pc : Nat} (h : DkAt code pc [10]) : decode code pc = .ok (.lconst 1, 1) := dk_of ((dk_bind (dk_u1 (h 0 _ rfl))).trans rfl)
theorem dk_16 {code : ByteArray} {pc : Nat} (a : UInt8) (h : DkAt code pc [16, a]) : decode code pc = .ok (.bipush (Reader.signed 8 a.toNat), 2) := dk_of ((dk_bind (dk_u1 (h 0 _ rfl))).trans ((dk_bind (dk_map (dk_u1 (h 1 _ rfl)))).trans rfl))
theorem dk_17 {code : ByteArray} {pc : Nat} (a b : UInt8) (h : DkAt code pc [17, a, b]) : decode code pc = .ok (.sipush (Reader.signed 16 (a.toNat * 256 + b.toNat)), 3) := dk_of ((dk_bind (dk_u1 (h 0 _ rfl))).trans ((dk_bind (dk_map (dk_u2 (h 1 _ rfl) (h 2 _ rfl)))).trans rfl))
theorem dk_18 {code : ByteArray} {pc : Nat} (a : UInt8) (h : DkAt code pc [18, a]) : decode code pc = .ok (.ldc a.toNat, 2) := dk_of ((dk_bind (dk_u1 (h 0 _ rfl))).trans ((dk_bind (dk_u1 (h 1 _ rfl))).trans rfl))
theorem dk_19 {code : ByteArray} {pc : Nat} (a b : UInt8) (h : DkAt code pc [19, a, b]) : decode code pc = .ok (.ldc_w (a.toNat * 256 + b.toNat), 3) := dk_of ((dk_bind (dk_u1 (h 0 _ rfl))).trans ((dk_bind (dk_u2 (h 1 _ rfl) (h 2 _ rfl))).trans rfl))
theorem dk_21 {code : ByteArray} {pc : Nat} (a : UInt8) (h : DkAt code pc [21, a]) : decode code pc = .ok (.iload a.toNat, 2) := dk_of ((dk_bind (dk_u1 (h 0 _ rfl))).trans ((dk_bind (dk_u1 (h 1 _ rfl))).trans rfl))
theorem dk_25 {code : ByteArray} {pc : Nat} (a : UInt8) (h : DkAt code pc [25, a]) : decode code pc = .ok (.aload a.toNat, 2) := dk_of ((dk_bind (dk_u1 (h 0 _ rfl))).trans ((dk_bind (dk_u1 (h 1 _ rfl))).trans rfl))
theorem dk_26 {code : ByteArray} {pc : Nat} (h : DkAt code pc [26]) : decode code pc = .ok (.iload_n 0, 1) := dk_of ((dk_bind (dk_u1 (h 0 _ rfl))).trans rfl)
theorem dk_27 {code : ByteArray} {pc : Nat} (h : DkAt code pc [27]) : decode code pc = .ok (.iload_n 1, 1) := dk_of ((dk_bind (dk_u1 (h 0 _ rfl))).trans rfl)
theorem dk_28 {code : ByteArray} {pc : Nat} (h : DkAt code pc [28]) : decode code pc = .ok (.iload_n 2, 1) := dk_of ((dk_bind (dk_u1 (h 0 _ rfl))).trans rfl)
theorem dk_29 {code : ByteArray} {pc : Nat} (h : DkAt code pc [29]) : decode code pc = .ok (.iload_n 3, 1) := dk_of ((dk_bind (dk_u1 (h 0 _ rfl))).trans rfl)
theorem dk_42 {code : ByteArray} {pc : Nat} (h : DkAt code pc [42]) : decode code pc = .ok (.aload_n 0, 1) := dk_of ((dk_bind (dk_u1 (h 0 _ rfl))).trans rfl)
theorem dk_43 {code : ByteArray} {pc : Nat} (h : DkAt code pc [43]) : decode code pc = .ok (.aload_n 1, 1) := dk_of ((dk_bind (dk_u1 (h 0 _ rfl))).trans rfl)
theorem dk_44 {code : ByteArray} {pc : Nat} (h : DkAt code pc [44]) : decode code pc = .ok (.aload_n 2, 1) := dk_of ((dk_bind (dk_u1 (h 0 _ rfl))).trans rfl)
theorem dk_45 {code : ByteArray} {pc : Nat} (h : DkAt code pc [45]) : decode code pc = .ok (.aload_n 3, 1) := dk_of ((dk_bind (dk_u1 (h 0 _ rfl))).trans rfl)
theorem dk_46 {code : ByteArray} {pc : Nat} (h : DkAt code pc [46]) : decode code pc = .ok (.iaload, 1) := dk_of ((dk_bind (dk_u1 (h 0 _ rfl))).trans rfl)
theorem dk_47 {code : ByteArray} {pc : Nat} (h : DkAt code pc [47]) : decode code pc = .ok (.laload, 1) := dk_of ((dk_bind (dk_u1 (h 0 _ rfl))).trans rfl)
theorem dk_50 {code : ByteArray} {pc : Nat} (h : DkAt code pc [50]) : decode code pc = .ok (.aaload, 1) := dk_of ((dk_bind (dk_u1 (h 0 _ rfl))).trans rfl)
theorem dk_51 {code : ByteArray} {pc : Nat} (h : DkAt code pc [51]) : decode code pc = .ok (.baload, 1) := dk_of ((dk_bind (dk_u1 (h 0 _ rfl))).trans rfl)
theorem dk_54 {code : ByteArray} {pc : Nat} (a : UInt8) (h : DkAt code pc [54, a]) : decode code pc = .ok (.istore a.toNat, 2) := dk_of ((dk_bind (dk_u1 (h 0 _ rfl))).trans ((dk_bind (dk_u1 (h 1 _ rfl))).trans rfl))
theorem dk_58 {code : ByteArray} {pc : Nat} (a : UInt8) (h : DkAt code pc [58, a]) : decode code pc = .ok (.astore a.toNat, 2) := dk_of ((dk_bind (dk_u1 (h 0 _ rfl))).trans ((dk_bind (dk_u1 (h 1 _ rfl))).trans rfl))
theorem dk_59 {code : ByteArray} {pc : Nat} (h : DkAt code pc [59]) : decode code pc = .ok (.istore_n 0, 1) := dk_of ((dk_bind (dk_u1 (h 0 _ rfl))).trans rfl)
theorem dk_60 {code : ByteArray} {pc : Nat} (h : DkAt code pc [60]) : decode code pc = .ok (.istore_n 1, 1) := dk_of ((dk_bind (dk_u1 (h 0 _ rfl))).trans rfl)
theorem dk_61 {code : ByteArray} {pc : Nat} (h : DkAt code pc [61]) : decode code pc = .ok (.istore_n 2, 1) := dk_of ((dk_bind (dk_u1 (h 0 _ rfl))).trans rfl)
theorem dk_62 {code : ByteArray} {pc : Nat} (h : DkAt code pc [62]) : decode code pc = .ok (.istore_n 3, 1) := dk_of ((dk_bind (dk_u1 (h 0 _ rfl))).trans rfl)
theorem dk_76 {code : ByteArray} {pc : Nat} (h : DkAt code pc [76]) : decode code pc = .ok (.astore_n 1, 1) := dk_of ((dk_bind (dk_u1 (h 0 _ rfl))).trans rfl)
theorem dk_77 {code : ByteArray} {pc : Nat} (h : DkAt code pc [77]) : decode code pc = .ok (.astore_n 2, 1) := dk_of ((dk_bind (dk_u1 (h 0 _ rfl))).trans rfl)
theorem dk_78 {code : ByteArray} {pc : Nat} (h : DkAt code pc [78]) : decode code pc = .ok (.astore_n 3, 1) := dk_of ((dk_bind (dk_u1 (h 0 _ rfl))).trans rfl)
theorem dk_79 {code : ByteArray} {pc : Nat} (h : DkAt code pc [79]) : decode code pc = .ok (.iastore, 1) := dk_of ((dk_bind (dk_u1 (h 0 _ rfl))).trans rfl)
theorem dk_80 {code : ByteArray} {pc : Nat} (h : DkAt code pc [80]) : decode code pc = .ok (.lastore, 1) := dk_of ((dk_bind (dk_u1 (h 0 _ rfl))).trans rfl)
theorem dk_83 {code : ByteArray} {pc : Nat} (h : DkAt code pc [83]) : decode code pc = .ok (.aastore, 1) := dk_of ((dk_bind (dk_u1 (h 0 _ rfl))).trans rfl)
theorem dk_84 {code : ByteArray} {pc : Nat} (h : DkAt code pc [84]) : decode code pc = .ok (.bastore, 1) := dk_of ((dk_bind (dk_u1 (h 0 _ rfl))).trans rfl)
theorem dk_87 {code : ByteArray} {pc : Nat} (h : DkAt code pc [87]) : decode code pc = .ok (.pop, 1) := dk_of ((dk_bind (dk_u1 (h 0 _ rfl))).trans rfl)
theorem dk_89 {code : ByteArray} {pc : Nat} (h : DkAt code pc [89]) : decode code pc = .ok (.dup, 1) := dk_of ((dk_bind (dk_u1 (h 0 _ rfl))).trans rfl)
theorem dk_90 {code : ByteArray} {pc : Nat} (h : DkAt code pc [90]) : decode code pc = .ok (.dup_x1, 1) := dk_of ((dk_bind (dk_u1 (h 0 _ rfl))).trans rfl)
theorem dk_92 {code : ByteArray} {pc : Nat} (h : DkAt code pc [92]) : decode code pc = .ok (.dup2, 1) := dk_of ((dk_bind (dk_u1 (h 0 _ rfl))).trans rfl)
theorem dk_96 {code : ByteArray} {pc : Nat} (h : DkAt code pc [96]) : decode code pc = .ok (.iadd, 1) := dk_of ((dk_bind (dk_u1 (h 0 _ rfl))).trans rfl)
theorem dk_100 {code : ByteArray} {pc : Nat} (h : DkAt code pc [100]) : decode code pc = .ok (.isub, 1) := dk_of ((dk_bind (dk_u1 (h 0 _ rfl))).trans rfl)
theorem dk_104 {code : ByteArray} {pc : Nat} (h : DkAt code pc [104]) : decode code pc = .ok (.imul, 1) := dk_of ((dk_bind (dk_u1 (h 0 _ rfl))).trans rfl)
theorem dk_108 {code : ByteArray} {pc : Nat} (h : DkAt code pc [108]) : decode code pc = .ok (.idiv, 1) := dk_of ((dk_bind (dk_u1 (h 0 _ rfl))).trans rfl)
theorem dk_112 {code : ByteArray} {pc : Nat} (h : DkAt code pc [112]) : decode code pc = .ok (.irem, 1) := dk_of ((dk_bind (dk_u1 (h 0 _ rfl))).trans rfl)
theorem dk_116 {code : ByteArray} {pc : Nat} (h : DkAt code pc [116]) : decode code pc = .ok (.ineg, 1) := dk_of ((dk_bind (dk_u1 (h 0 _ rfl))).trans rfl)
theorem dk_120 {code : ByteArray} {pc : Nat} (h : DkAt code pc [120]) : decode code pc = .ok (.ishl, 1) := dk_of ((dk_bind (dk_u1 (h 0 _ rfl))).trans rfl)
theorem dk_122 {code : ByteArray} {pc : Nat} (h : DkAt code pc [122]) : decode code pc = .ok (.ishr, 1) := dk_of ((dk_bind (dk_u1 (h 0 _ rfl))).trans rfl)
theorem dk_124 {code : ByteArray} {pc : Nat} (h : DkAt code pc [124]) : decode code pc = .ok (.iushr, 1) := dk_of ((dk_bind (dk_u1 (h 0 _ rfl))).trans rfl)
theorem dk_126 {code : ByteArray} {pc : Nat} (h : DkAt code pc [126]) : decode code pc = .ok (.iand, 1) := dk_of ((dk_bind (dk_u1 (h 0 _ rfl))).trans rfl)
theorem dk_128 {code : ByteArray} {pc : Nat} (h : DkAt code pc [128]) : decode code pc = .ok (.ior, 1) := dk_of ((dk_bind (dk_u1 (h 0 _ rfl))).trans rfl)
theorem dk_130 {code : ByteArray} {pc : Nat} (h : DkAt code pc [130]) : decode code pc = .ok (.ixor, 1) := dk_of ((dk_bind (dk_u1 (h 0 _ rfl))).trans rfl)
theorem dk_132 {code : ByteArray} {pc : Nat} (a b : UInt8) (h : DkAt code pc [132, a, b]) : decode code pc = .ok (.iinc a.toNat (Reader.signed 8 b.toNat), 3) := dk_of ((dk_bind (dk_u1 (h 0 _ rfl))).trans ((dk_bind (dk_u1 (h 1 _ rfl))).trans ((dk_bind (dk_map (dk_u1 (h 2 _ rfl)))).trans rfl)))
theorem dk_133 {code : ByteArray} {pc : Nat} (h : DkAt code pc [133]) : decode code pc = .ok (.i2l, 1) := dk_of ((dk_bind (dk_u1 (h 0 _ rfl))).trans rfl)
theorem dk_145 {code : ByteArray} {pc : Nat} (h : DkAt code pc [145]) : decode code pc = .ok (.i2b, 1) := dk_of ((dk_bind (dk_u1 (h 0 _ rfl))).trans rfl)
theorem dk_146 {code : ByteArray} {pc : Nat} (h : DkAt code pc [146]) : decode code pc = .ok (.i2c, 1) := dk_of ((dk_bind (dk_u1 (h 0 _ rfl))).trans rfl)
theorem dk_148 {code : ByteArray} {pc : Nat} (h : DkAt code pc [148]) : decode code pc = .ok (.lcmp, 1) := dk_of ((dk_bind (dk_u1 (h 0 _ rfl))).trans rfl)
theorem dk_153 {code : ByteArray} {pc : Nat} (a b : UInt8) (h : DkAt code pc [153, a, b]) : decode code pc = .ok (.ifCond .eq (Reader.signed 16 (a.toNat * 256 + b.toNat)), 3) := dk_of ((dk_bind (dk_u1 (h 0 _ rfl))).trans ((dk_bind (dk_map (dk_u2 (h 1 _ rfl) (h 2 _ rfl)))).trans rfl))
theorem dk_154 {code : ByteArray} {pc : Nat} (a b : UInt8) (h : DkAt code pc [154, a, b]) : decode code pc = .ok (.ifCond .ne (Reader.signed 16 (a.toNat * 256 + b.toNat)), 3) := dk_of ((dk_bind (dk_u1 (h 0 _ rfl))).trans ((dk_bind (dk_map (dk_u2 (h 1 _ rfl) (h 2 _ rfl)))).trans rfl))
theorem dk_155 {code : ByteArray} {pc : Nat} (a b : UInt8) (h : DkAt code pc [155, a, b]) : decode code pc = .ok (.ifCond .lt (Reader.signed 16 (a.toNat * 256 + b.toNat)), 3) := dk_of ((dk_bind (dk_u1 (h 0 _ rfl))).trans ((dk_bind (dk_map (dk_u2 (h 1 _ rfl) (h 2 _ rfl)))).trans rfl))
theorem dk_156 {code : ByteArray} {pc : Nat} (a b : UInt8) (h : DkAt code pc [156, a, b]) : decode code pc = .ok (.ifCond .ge (Reader.signed 16 (a.toNat * 256 + b.toNat)), 3) := dk_of ((dk_bind (dk_u1 (h 0 _ rfl))).trans ((dk_bind (dk_map (dk_u2 (h 1 _ rfl) (h 2 _ rfl)))).trans rfl))
theorem dk_157 {code : ByteArray} {pc : Nat} (a b : UInt8) (h : DkAt code pc [157, a, b]) : decode code pc = .ok (.ifCond .gt (Reader.signed 16 (a.toNat * 256 + b.toNat)), 3) := dk_of ((dk_bind (dk_u1 (h 0 _ rfl))).trans ((dk_bind (dk_map (dk_u2 (h 1 _ rfl) (h 2 _ rfl)))).trans rfl))
theorem dk_158 {code : ByteArray} {pc : Nat} (a b : UInt8) (h : DkAt code pc [158, a, b]) : decode code pc = .ok (.ifCond .le (Reader.signed 16 (a.toNat * 256 + b.toNat)), 3) := dk_of ((dk_bind (dk_u1 (h 0 _ rfl))).trans ((dk_bind (dk_map (dk_u2 (h 1 _ rfl) (h 2 _ rfl)))).trans rfl))
theorem dk_159 {code : ByteArray} {pc : Nat} (a b : UInt8) (h : DkAt code pc [159, a, b]) : decode code pc = .ok (.if_icmp .eq (Reader.signed 16 (a.toNat * 256 + b.toNat)), 3) := dk_of ((dk_bind (dk_u1 (h 0 _ rfl))).trans ((dk_bind (dk_map (dk_u2 (h 1 _ rfl) (h 2 _ rfl)))).trans rfl))
theorem dk_160 {code : ByteArray} {pc : Nat} (a b : UInt8) (h : DkAt code pc [160, a, b]) : decode code pc = .ok (.if_icmp .ne (Reader.signed 16 (a.toNat * 256 + b.toNat)), 3) := dk_of ((dk_bind (dk_u1 (h 0 _ rfl))).trans ((dk_bind (dk_map (dk_u2 (h 1 _ rfl) (h 2 _ rfl)))).trans rfl))
theorem dk_161 {code : ByteArray} {pc : Nat} (a b : UInt8) (h : DkAt code pc [161, a, b]) : decode code pc = .ok (.if_icmp .lt (Reader.signed 16 (a.toNat * 256 + b.toNat)), 3) := dk_of ((dk_bind (dk_u1 (h 0 _ rfl))).trans ((dk_bind (dk_map (dk_u2 (h 1 _ rfl) (h 2 _ rfl)))).trans rfl))
theorem dk_162 {code : ByteArray} {pc : Nat} (a b : UInt8) (h : DkAt code pc [162, a, b]) : decode code pc = .ok (.if_icmp .ge (Reader.signed 16 (a.toNat * 256 + b.toNat)), 3) := dk_of ((dk_bind (dk_u1 (h 0 _ rfl))).trans ((dk_bind (dk_map (dk_u2 (h 1 _ rfl) (h 2 _ rfl)))).trans rfl))
theorem dk_163 {code : ByteArray} {pc : Nat} (a b : UInt8) (h : DkAt code pc [163, a, b]) : decode code pc = .ok (.if_icmp .gt (Reader.signed 16 (a.toNat * 256 + b.toNat)), 3) := dk_of ((dk_bind (dk_u1 (h 0 _ rfl))).trans ((dk_bind (dk_map (dk_u2 (h 1 _ rfl) (h 2 _ rfl)))).trans rfl))
theorem dk_164 {code : ByteArray} {pc : Nat} (a b : UInt8) (h : DkAt code pc [164, a, b]) : decode code pc = .ok (.if_icmp .le (Reader.signed 16 (a.toNat * 256 + b.toNat)), 3) := dk_of ((dk_bind (dk_u1 (h 0 _ rfl))).trans ((dk_bind (dk_map (dk_u2 (h 1 _ rfl) (h 2 _ rfl)))).trans rfl))
theorem dk_165 {code : ByteArray} {pc : Nat} (a b : UInt8) (h : DkAt code pc [165, a, b]) : decode code pc = .ok (.if_acmp .eq (Reader.signed 16 (a.toNat * 256 + b.toNat)), 3) := dk_of ((dk_bind (dk_u1 (h 0 _ rfl))).trans ((dk_bind (dk_map (dk_u2 (h 1 _ rfl) (h 2 _ rfl)))).trans rfl))
theorem dk_166 {code : ByteArray} {pc : Nat} (a b : UInt8) (h : DkAt code pc [166, a, b]) : decode code pc = .ok (.if_acmp .ne (Reader.signed 16 (a.toNat * 256 + b.toNat)), 3) := dk_of ((dk_bind (dk_u1 (h 0 _ rfl))).trans ((dk_bind (dk_map (dk_u2 (h 1 _ rfl) (h 2 _ rfl)))).trans rfl))
theorem dk_167 {code : ByteArray} {pc : Nat} (a b : UInt8) (h : DkAt code pc [167, a, b]) : decode code pc = .ok (.goto (Reader.signed 16 (a.toNat * 256 + b.toNat)), 3) := dk_of ((dk_bind (dk_u1 (h 0 _ rfl))).trans ((dk_bind (dk_map (dk_u2 (h 1 _ rfl) (h 2 _ rfl)))).trans rfl))
theorem dk_172 {code : ByteArray} {pc : Nat} (h : DkAt code pc [172]) : decode code pc = .ok (.ireturn, 1) := dk_of ((dk_bind (dk_u1 (h 0 _ rfl))).trans rfl)
theorem dk_176 {code : ByteArray} {pc : Nat} (h : DkAt code pc [176]) : decode code pc = .ok (.areturn, 1) := dk_of ((dk_bind (dk_u1 (h 0 _ rfl))).trans rfl)
theorem dk_177 {code : ByteArray} {pc : Nat} (h : DkAt code pc [177]) : decode code pc = .ok (.return_, 1) := dk_of ((dk_bind (dk_u1 (h 0 _ rfl))).trans rfl)
theorem dk_178 {code : ByteArray} {pc : Nat} (a b : UInt8) (h : DkAt code pc [178, a, b]) : decode code pc = .ok (.getstatic (a.toNat * 256 + b.toNat), 3) := dk_of ((dk_bind (dk_u1 (h 0 _ rfl))).trans ((dk_bind (dk_u2 (h 1 _ rfl) (h 2 _ rfl))).trans rfl))
theorem dk_180 {code : ByteArray} {pc : Nat} (a b : UInt8) (h : DkAt code pc [180, a, b]) : decode code pc = .ok (.getfield (a.toNat * 256 + b.toNat), 3) := dk_of ((dk_bind (dk_u1 (h 0 _ rfl))).trans ((dk_bind (dk_u2 (h 1 _ rfl) (h 2 _ rfl))).trans rfl))
theorem dk_181 {code : ByteArray} {pc : Nat} (a b : UInt8) (h : DkAt code pc [181, a, b]) : decode code pc = .ok (.putfield (a.toNat * 256 + b.toNat), 3) := dk_of ((dk_bind (dk_u1 (h 0 _ rfl))).trans ((dk_bind (dk_u2 (h 1 _ rfl) (h 2 _ rfl))).trans rfl))
theorem dk_182 {code : ByteArray} {pc : Nat} (a b : UInt8) (h : DkAt code pc [182, a, b]) : decode code pc = .ok (.invokevirtual (a.toNat * 256 + b.toNat), 3) := dk_of ((dk_bind (dk_u1 (h 0 _ rfl))).trans ((dk_bind (dk_u2 (h 1 _ rfl) (h 2 _ rfl))).trans rfl))
theorem dk_183 {code : ByteArray} {pc : Nat} (a b : UInt8) (h : DkAt code pc [183, a, b]) : decode code pc = .ok (.invokespecial (a.toNat * 256 + b.toNat), 3) := dk_of ((dk_bind (dk_u1 (h 0 _ rfl))).trans ((dk_bind (dk_u2 (h 1 _ rfl) (h 2 _ rfl))).trans rfl))
theorem dk_184 {code : ByteArray} {pc : Nat} (a b : UInt8) (h : DkAt code pc [184, a, b]) : decode code pc = .ok (.invokestatic (a.toNat * 256 + b.toNat), 3) := dk_of ((dk_bind (dk_u1 (h 0 _ rfl))).trans ((dk_bind (dk_u2 (h 1 _ rfl) (h 2 _ rfl))).trans rfl))
theorem dk_187 {code : ByteArray} {pc : Nat} (a b : UInt8) (h : DkAt code pc [187, a, b]) : decode code pc = .ok (.new (a.toNat * 256 + b.toNat), 3) := dk_of ((dk_bind (dk_u1 (h 0 _ rfl))).trans ((dk_bind (dk_u2 (h 1 _ rfl) (h 2 _ rfl))).trans rfl))
theorem dk_188_4 {code : ByteArray} {pc : Nat} (h : DkAt code pc [188, 4]) : decode code pc = .ok (.newarray .boolean, 2) := dk_of ((dk_bind (dk_u1 (h 0 _ rfl))).trans ((dk_bind (dk_u1 (h 1 _ rfl))).trans rfl))
theorem dk_188_8 {code : ByteArray} {pc : Nat} (h : DkAt code pc [188, 8]) : decode code pc = .ok (.newarray .byte, 2) := dk_of ((dk_bind (dk_u1 (h 0 _ rfl))).trans ((dk_bind (dk_u1 (h 1 _ rfl))).trans rfl))
theorem dk_188_10 {code : ByteArray} {pc : Nat} (h : DkAt code pc [188, 10]) : decode code pc = .ok (.newarray .int, 2) := dk_of ((dk_bind (dk_u1 (h 0 _ rfl))).trans ((dk_bind (dk_u1 (h 1 _ rfl))).trans rfl))
theorem dk_188_11 {code : ByteArray} {pc : Nat} (h : DkAt code pc [188, 11]) : decode code pc = .ok (.newarray .long, 2) := dk_of ((dk_bind (dk_u1 (h 0 _ rfl))).trans ((dk_bind (dk_u1 (h 1 _ rfl))).trans rfl))
theorem dk_189 {code : ByteArray} {pc : Nat} (a b : UInt8) (h : DkAt code pc [189, a, b]) : decode code pc = .ok (.anewarray (a.toNat * 256 + b.toNat), 3) := dk_of ((dk_bind (dk_u1 (h 0 _ rfl))).trans ((dk_bind (dk_u2 (h 1 _ rfl) (h 2 _ rfl))).trans rfl))
theorem dk_190 {code : ByteArray} {pc : Nat} (h : DkAt code pc [190]) : decode code pc = .ok (.arraylength, 1) := dk_of ((dk_bind (dk_u1 (h 0 _ rfl))).trans rfl)
theorem dk_191 {code : ByteArray} {pc : Nat} (h : DkAt code pc [191]) : decode code pc = .ok (.athrow, 1) := dk_of ((dk_bind (dk_u1 (h 0 _ rfl))).trans rfl)
theorem dk_192 {code : ByteArray} {pc : Nat} (a b : UInt8) (h : DkAt code pc [192, a, b]) : decode code pc = .ok (.checkcast (a.toNat * 256 + b.toNat), 3) := dk_of ((dk_bind (dk_u1 (h 0 _ rfl))).trans ((dk_bind (dk_u2 (h 1 _ rfl) (h 2 _ rfl))).trans rfl))
theorem dk_193 {code : ByteArray} {pc : Nat} (a b : UInt8) (h : DkAt code pc [193, a, b]) : decode code pc = .ok (.instanceof (a.toNat * 256 + b.toNat), 3) := dk_of ((dk_bind (dk_u1 (h 0 _ rfl))).trans ((dk_bind (dk_u2 (h 1 _ rfl) (h 2 _ rfl))).trans rfl))
theorem dk_199 {code : ByteArray} {pc : Nat} (a b : UInt8) (h : DkAt code pc [199, a, b]) : decode code pc = .ok (.ifnonnull (Reader.signed 16 (a.toNat * 256 + b.toNat)), 3) := dk_of ((dk_bind (dk_u1 (h 0 _ rfl))).trans ((dk_bind (dk_map (dk_u2 (h 1 _ rfl) (h 2 _ rfl)))).trans rfl))
/-! java/util/AbstractCollection -/
set_option maxRecDepth 100000
def RJ0 : String := "java/util/AbstractCollection"
abbrev cJ0_init : ByteArray := prog_44_method_1_code
def yJ0_init : MethodName := ⟨RJ0, "<init>", "()V"⟩
theorem dJ0_init_0 : decode cJ0_init 0 = .ok (.aload_n 0, 1) := by decide +kernel
theorem dJ0_init_1 : decode cJ0_init 1 = .ok (.invokespecial 1, 3) := by decide +kernel
theorem dJ0_init_4 : decode cJ0_init 4 = .ok (.return_, 1) := by decide +kernel
theorem q97 : (Jvm.Cond.initialized "java/util/AbstractCollection") ∈ lw_all := lw_g (lw_at lw_m1 2 rfl) rfl
theorem q154 : (Jvm.Cond.instanceMethod ({ cls := "java/util/AbstractCollection", name := "<init>", desc := "()V" } : Jvm.MethodName)) ∈ lw_all := lw_g (lw_at lw_m1 59 rfl) rfl
theorem q155 : (Jvm.Cond.code ({ cls := "java/util/AbstractCollection", name := "<init>", desc := "()V" } : Jvm.MethodName) prog_44_method_1_code (1 : Nat) (Option.none : Option Jvm.ClassFile.FieldType)) ∈ lw_all := lw_g (lw_at lw_m1 60 rfl) rfl
theorem q156 : (Jvm.Cond.methodLink "java/util/AbstractCollection" (1 : Nat) ({ cls := "java/lang/Object", name := "<init>", desc := "()V" } : Jvm.MethodName)) ∈ lw_all := lw_g (lw_at lw_m1 61 rfl) rfl

/-! java/util/AbstractList -/
set_option maxRecDepth 100000
def RJ1 : String := "java/util/AbstractList"
abbrev cJ1_init : ByteArray := prog_45_method_1_code
def yJ1_init : MethodName := ⟨RJ1, "<init>", "()V"⟩
def dkwJ1_init_0 : List UInt8 := [42, 183, 0, 1, 42, 3, 181, 0, 7, 177]
abbrev dktJ1_init_0 : List UInt8 := dkwJ1_init_0 ++ []
theorem dksJ1_init_0 : cJ1_init.data.toList.drop 0 = dktJ1_init_0 := by decide +kernel
theorem dJ1_init_0 : decode cJ1_init 0 = .ok (.aload_n 0, 1) := dk_42 (dk_at dksJ1_init_0 0 rfl rfl)
theorem dJ1_init_1 : decode cJ1_init 1 = .ok (.invokespecial 1, 3) := dk_183 0 1 (dk_at dksJ1_init_0 1 rfl rfl)
theorem dJ1_init_4 : decode cJ1_init 4 = .ok (.aload_n 0, 1) := dk_42 (dk_at dksJ1_init_0 4 rfl rfl)
theorem dJ1_init_5 : decode cJ1_init 5 = .ok (.iconst 0, 1) := dk_3 (dk_at dksJ1_init_0 5 rfl rfl)
theorem dJ1_init_6 : decode cJ1_init 6 = .ok (.putfield 7, 3) := dk_181 0 7 (dk_at dksJ1_init_0 6 rfl rfl)
theorem dJ1_init_9 : decode cJ1_init 9 = .ok (.return_, 1) := dk_177 (dk_at dksJ1_init_0 9 rfl rfl)
theorem q98 : (Jvm.Cond.initialized "java/util/AbstractList") ∈ lw_all := lw_g (lw_at lw_m1 3 rfl) rfl
theorem q151 : (Jvm.Cond.instanceMethod ({ cls := "java/util/AbstractList", name := "<init>", desc := "()V" } : Jvm.MethodName)) ∈ lw_all := lw_g (lw_at lw_m1 56 rfl) rfl
theorem q152 : (Jvm.Cond.code ({ cls := "java/util/AbstractList", name := "<init>", desc := "()V" } : Jvm.MethodName) prog_45_method_1_code (1 : Nat) (Option.none : Option Jvm.ClassFile.FieldType)) ∈ lw_all := lw_g (lw_at lw_m1 57 rfl) rfl
theorem q153 : (Jvm.Cond.methodLink "java/util/AbstractList" (1 : Nat) ({ cls := "java/util/AbstractCollection", name := "<init>", desc := "()V" } : Jvm.MethodName)) ∈ lw_all := lw_g (lw_at lw_m1 58 rfl) rfl
theorem q161 : (Jvm.Cond.fieldLink "java/util/AbstractList" (7 : Nat) "java/util/AbstractList" "modCount" "I") ∈ lw_all := lw_g (lw_at lw_m1 66 rfl) rfl
theorem q169 : (Jvm.Cond.soleField "java/util/AbstractList" "modCount") ∈ lw_all := lw_g (lw_at lw_m1 74 rfl) rfl

/-! java/util/ArrayList -/
set_option maxRecDepth 100000
def RJ2 : String := "java/util/ArrayList"
def TJ2 : u_T := fun k => match k with
  | 0 => ("java/util/AbstractList", "modCount", "I", false)
  | 1 => ("java/util/ArrayList", "elementData", "[Ljava/lang/Object;", false)
  | _ => ("java/util/ArrayList", "size", "I", false)
def tyJ2 : Nat → FieldType := fun k => match k with
  | 0 => .int
  | 1 => .array (.object "java/lang/Object")
  | _ => .int
abbrev wsJ20 : List Cond := u_ws RJ2 TJ2 3
theorem nmJ2 : ∀ a, a < 3 → ∀ b, b < 3 → a ≠ b → (TJ2 a).2.1 ≠ (TJ2 b).2.1 := by decide +kernel
theorem tyJ2_ok : ∀ k, k < 3 → parseFieldDescriptor (TJ2 k).2.2.1 = some (tyJ2 k) := by decide +kernel
abbrev cJ2_init : ByteArray := prog_46_method_2_code
def yJ2_init : MethodName := ⟨RJ2, "<init>", "()V"⟩
def dkwJ2_init_0 : List UInt8 := [42, 183, 0, 1, 42, 178, 0, 39, 181, 0, 9, 177]
abbrev dktJ2_init_0 : List UInt8 := dkwJ2_init_0 ++ []
theorem dksJ2_init_0 : cJ2_init.data.toList.drop 0 = dktJ2_init_0 := by decide +kernel
theorem dJ2_init_0 : decode cJ2_init 0 = .ok (.aload_n 0, 1) := dk_42 (dk_at dksJ2_init_0 0 rfl rfl)
theorem dJ2_init_1 : decode cJ2_init 1 = .ok (.invokespecial 1, 3) := dk_183 0 1 (dk_at dksJ2_init_0 1 rfl rfl)
theorem dJ2_init_4 : decode cJ2_init 4 = .ok (.aload_n 0, 1) := dk_42 (dk_at dksJ2_init_0 4 rfl rfl)
theorem dJ2_init_5 : decode cJ2_init 5 = .ok (.getstatic 39, 3) := dk_178 0 39 (dk_at dksJ2_init_0 5 rfl rfl)
theorem dJ2_init_8 : decode cJ2_init 8 = .ok (.putfield 9, 3) := dk_181 0 9 (dk_at dksJ2_init_0 8 rfl rfl)
theorem dJ2_init_11 : decode cJ2_init 11 = .ok (.return_, 1) := dk_177 (dk_at dksJ2_init_0 11 rfl rfl)
abbrev cJ2_add : ByteArray := prog_46_method_25_code
def yJ2_add : MethodName := ⟨RJ2, "add", "(Ljava/lang/Object;)Z"⟩
def dkwJ2_add_1 : List UInt8 := [172]
abbrev dktJ2_add_1 : List UInt8 := dkwJ2_add_1 ++ []
def dkwJ2_add_0 : List UInt8 := [42, 89, 180, 0, 63, 4, 96, 181, 0, 63, 42, 43, 42, 180, 0, 9, 42, 180, 0, 48, 182, 0, 131, 4]
abbrev dktJ2_add_0 : List UInt8 := dkwJ2_add_0 ++ dktJ2_add_1
theorem dksJ2_add_0 : cJ2_add.data.toList.drop 0 = dktJ2_add_0 := by decide +kernel
theorem dksJ2_add_1 : cJ2_add.data.toList.drop 24 = dktJ2_add_1 := dk_seg dksJ2_add_0 24 rfl rfl
theorem dJ2_add_0 : decode cJ2_add 0 = .ok (.aload_n 0, 1) := dk_42 (dk_at dksJ2_add_0 0 rfl rfl)
theorem dJ2_add_1 : decode cJ2_add 1 = .ok (.dup, 1) := dk_89 (dk_at dksJ2_add_0 1 rfl rfl)
theorem dJ2_add_2 : decode cJ2_add 2 = .ok (.getfield 63, 3) := dk_180 0 63 (dk_at dksJ2_add_0 2 rfl rfl)
theorem dJ2_add_5 : decode cJ2_add 5 = .ok (.iconst 1, 1) := dk_4 (dk_at dksJ2_add_0 5 rfl rfl)
theorem dJ2_add_6 : decode cJ2_add 6 = .ok (.iadd, 1) := dk_96 (dk_at dksJ2_add_0 6 rfl rfl)
theorem dJ2_add_7 : decode cJ2_add 7 = .ok (.putfield 63, 3) := dk_181 0 63 (dk_at dksJ2_add_0 7 rfl rfl)
theorem dJ2_add_10 : decode cJ2_add 10 = .ok (.aload_n 0, 1) := dk_42 (dk_at dksJ2_add_0 10 rfl rfl)
theorem dJ2_add_11 : decode cJ2_add 11 = .ok (.aload_n 1, 1) := dk_43 (dk_at dksJ2_add_0 11 rfl rfl)
theorem dJ2_add_12 : decode cJ2_add 12 = .ok (.aload_n 0, 1) := dk_42 (dk_at dksJ2_add_0 12 rfl rfl)
theorem dJ2_add_13 : decode cJ2_add 13 = .ok (.getfield 9, 3) := dk_180 0 9 (dk_at dksJ2_add_0 13 rfl rfl)
theorem dJ2_add_16 : decode cJ2_add 16 = .ok (.aload_n 0, 1) := dk_42 (dk_at dksJ2_add_0 16 rfl rfl)
theorem dJ2_add_17 : decode cJ2_add 17 = .ok (.getfield 48, 3) := dk_180 0 48 (dk_at dksJ2_add_0 17 rfl rfl)
theorem dJ2_add_20 : decode cJ2_add 20 = .ok (.invokevirtual 131, 3) := dk_182 0 131 (dk_at dksJ2_add_0 20 rfl rfl)
theorem dJ2_add_23 : decode cJ2_add 23 = .ok (.iconst 1, 1) := dk_4 (dk_at dksJ2_add_0 23 rfl rfl)
theorem dJ2_add_24 : decode cJ2_add 24 = .ok (.ireturn, 1) := dk_172 (dk_at dksJ2_add_1 0 rfl rfl)
abbrev cJ2_add_2 : ByteArray := prog_46_method_24_code
def yJ2_add_2 : MethodName := ⟨RJ2, "add", "(Ljava/lang/Object;[Ljava/lang/Object;I)V"⟩
def dkwJ2_add_2_0 : List UInt8 := [29, 44, 190, 160, 0, 8, 42, 182, 0, 129, 77, 44, 29, 43, 83, 42, 29, 4, 96, 181, 0, 48, 177]
abbrev dktJ2_add_2_0 : List UInt8 := dkwJ2_add_2_0 ++ []
theorem dksJ2_add_2_0 : cJ2_add_2.data.toList.drop 0 = dktJ2_add_2_0 := by decide +kernel
theorem dJ2_add_2_0 : decode cJ2_add_2 0 = .ok (.iload_n 3, 1) := dk_29 (dk_at dksJ2_add_2_0 0 rfl rfl)
theorem dJ2_add_2_1 : decode cJ2_add_2 1 = .ok (.aload_n 2, 1) := dk_44 (dk_at dksJ2_add_2_0 1 rfl rfl)
theorem dJ2_add_2_2 : decode cJ2_add_2 2 = .ok (.arraylength, 1) := dk_190 (dk_at dksJ2_add_2_0 2 rfl rfl)
theorem dJ2_add_2_3 : decode cJ2_add_2 3 = .ok (.if_icmp .ne 8, 3) := dk_160 0 8 (dk_at dksJ2_add_2_0 3 rfl rfl)
theorem dJ2_add_2_6 : decode cJ2_add_2 6 = .ok (.aload_n 0, 1) := dk_42 (dk_at dksJ2_add_2_0 6 rfl rfl)
theorem dJ2_add_2_7 : decode cJ2_add_2 7 = .ok (.invokevirtual 129, 3) := dk_182 0 129 (dk_at dksJ2_add_2_0 7 rfl rfl)
theorem dJ2_add_2_10 : decode cJ2_add_2 10 = .ok (.astore_n 2, 1) := dk_77 (dk_at dksJ2_add_2_0 10 rfl rfl)
theorem dJ2_add_2_11 : decode cJ2_add_2 11 = .ok (.aload_n 2, 1) := dk_44 (dk_at dksJ2_add_2_0 11 rfl rfl)
theorem dJ2_add_2_12 : decode cJ2_add_2 12 = .ok (.iload_n 3, 1) := dk_29 (dk_at dksJ2_add_2_0 12 rfl rfl)
theorem dJ2_add_2_13 : decode cJ2_add_2 13 = .ok (.aload_n 1, 1) := dk_43 (dk_at dksJ2_add_2_0 13 rfl rfl)
theorem dJ2_add_2_14 : decode cJ2_add_2 14 = .ok (.aastore, 1) := dk_83 (dk_at dksJ2_add_2_0 14 rfl rfl)
theorem dJ2_add_2_15 : decode cJ2_add_2 15 = .ok (.aload_n 0, 1) := dk_42 (dk_at dksJ2_add_2_0 15 rfl rfl)
theorem dJ2_add_2_16 : decode cJ2_add_2 16 = .ok (.iload_n 3, 1) := dk_29 (dk_at dksJ2_add_2_0 16 rfl rfl)
theorem dJ2_add_2_17 : decode cJ2_add_2 17 = .ok (.iconst 1, 1) := dk_4 (dk_at dksJ2_add_2_0 17 rfl rfl)
theorem dJ2_add_2_18 : decode cJ2_add_2 18 = .ok (.iadd, 1) := dk_96 (dk_at dksJ2_add_2_0 18 rfl rfl)
theorem dJ2_add_2_19 : decode cJ2_add_2 19 = .ok (.putfield 48, 3) := dk_181 0 48 (dk_at dksJ2_add_2_0 19 rfl rfl)
theorem dJ2_add_2_22 : decode cJ2_add_2 22 = .ok (.return_, 1) := dk_177 (dk_at dksJ2_add_2_0 22 rfl rfl)
abbrev cJ2_grow : ByteArray := prog_46_method_7_code
def yJ2_grow : MethodName := ⟨RJ2, "grow", "()[Ljava/lang/Object;"⟩
def dkwJ2_grow_0 : List UInt8 := [42, 42, 180, 0, 48, 4, 96, 182, 0, 69, 176]
abbrev dktJ2_grow_0 : List UInt8 := dkwJ2_grow_0 ++ []
theorem dksJ2_grow_0 : cJ2_grow.data.toList.drop 0 = dktJ2_grow_0 := by decide +kernel
theorem dJ2_grow_0 : decode cJ2_grow 0 = .ok (.aload_n 0, 1) := dk_42 (dk_at dksJ2_grow_0 0 rfl rfl)
theorem dJ2_grow_1 : decode cJ2_grow 1 = .ok (.aload_n 0, 1) := dk_42 (dk_at dksJ2_grow_0 1 rfl rfl)
theorem dJ2_grow_2 : decode cJ2_grow 2 = .ok (.getfield 48, 3) := dk_180 0 48 (dk_at dksJ2_grow_0 2 rfl rfl)
theorem dJ2_grow_5 : decode cJ2_grow 5 = .ok (.iconst 1, 1) := dk_4 (dk_at dksJ2_grow_0 5 rfl rfl)
theorem dJ2_grow_6 : decode cJ2_grow 6 = .ok (.iadd, 1) := dk_96 (dk_at dksJ2_grow_0 6 rfl rfl)
theorem dJ2_grow_7 : decode cJ2_grow 7 = .ok (.invokevirtual 69, 3) := dk_182 0 69 (dk_at dksJ2_grow_0 7 rfl rfl)
theorem dJ2_grow_10 : decode cJ2_grow 10 = .ok (.areturn, 1) := dk_176 (dk_at dksJ2_grow_0 10 rfl rfl)
abbrev cJ2_grow_2 : ByteArray := prog_46_method_6_code
def yJ2_grow_2 : MethodName := ⟨RJ2, "grow", "(I)[Ljava/lang/Object;"⟩
def dkwJ2_grow_2_2 : List UInt8 := [27, 184, 0, 79, 189, 0, 7, 90, 181, 0, 9, 176]
abbrev dktJ2_grow_2_2 : List UInt8 := dkwJ2_grow_2_2 ++ []
def dkwJ2_grow_2_1 : List UInt8 := [28, 4, 122, 184, 0, 73, 62, 42, 42, 180, 0, 9, 29, 184, 0, 66, 90, 181, 0, 9, 176, 42, 16, 10]
abbrev dktJ2_grow_2_1 : List UInt8 := dkwJ2_grow_2_1 ++ dktJ2_grow_2_2
def dkwJ2_grow_2_0 : List UInt8 := [42, 180, 0, 9, 190, 61, 28, 157, 0, 13, 42, 180, 0, 9, 178, 0, 39, 165, 0, 28, 28, 27, 28, 100]
abbrev dktJ2_grow_2_0 : List UInt8 := dkwJ2_grow_2_0 ++ dktJ2_grow_2_1
theorem dksJ2_grow_2_0 : cJ2_grow_2.data.toList.drop 0 = dktJ2_grow_2_0 := by decide +kernel
theorem dksJ2_grow_2_1 : cJ2_grow_2.data.toList.drop 24 = dktJ2_grow_2_1 := dk_seg dksJ2_grow_2_0 24 rfl rfl
theorem dksJ2_grow_2_2 : cJ2_grow_2.data.toList.drop 48 = dktJ2_grow_2_2 := dk_seg dksJ2_grow_2_1 24 rfl rfl
theorem dJ2_grow_2_0 : decode cJ2_grow_2 0 = .ok (.aload_n 0, 1) := dk_42 (dk_at dksJ2_grow_2_0 0 rfl rfl)
theorem dJ2_grow_2_1 : decode cJ2_grow_2 1 = .ok (.getfield 9, 3) := dk_180 0 9 (dk_at dksJ2_grow_2_0 1 rfl rfl)
theorem dJ2_grow_2_4 : decode cJ2_grow_2 4 = .ok (.arraylength, 1) := dk_190 (dk_at dksJ2_grow_2_0 4 rfl rfl)
theorem dJ2_grow_2_5 : decode cJ2_grow_2 5 = .ok (.istore_n 2, 1) := dk_61 (dk_at dksJ2_grow_2_0 5 rfl rfl)
theorem dJ2_grow_2_6 : decode cJ2_grow_2 6 = .ok (.iload_n 2, 1) := dk_28 (dk_at dksJ2_grow_2_0 6 rfl rfl)
theorem dJ2_grow_2_7 : decode cJ2_grow_2 7 = .ok (.ifCond .gt 13, 3) := dk_157 0 13 (dk_at dksJ2_grow_2_0 7 rfl rfl)
theorem dJ2_grow_2_10 : decode cJ2_grow_2 10 = .ok (.aload_n 0, 1) := dk_42 (dk_at dksJ2_grow_2_0 10 rfl rfl)
theorem dJ2_grow_2_11 : decode cJ2_grow_2 11 = .ok (.getfield 9, 3) := dk_180 0 9 (dk_at dksJ2_grow_2_0 11 rfl rfl)
theorem dJ2_grow_2_14 : decode cJ2_grow_2 14 = .ok (.getstatic 39, 3) := dk_178 0 39 (dk_at dksJ2_grow_2_0 14 rfl rfl)
theorem dJ2_grow_2_17 : decode cJ2_grow_2 17 = .ok (.if_acmp .eq 28, 3) := dk_165 0 28 (dk_at dksJ2_grow_2_0 17 rfl rfl)
theorem dJ2_grow_2_20 : decode cJ2_grow_2 20 = .ok (.iload_n 2, 1) := dk_28 (dk_at dksJ2_grow_2_0 20 rfl rfl)
theorem dJ2_grow_2_21 : decode cJ2_grow_2 21 = .ok (.iload_n 1, 1) := dk_27 (dk_at dksJ2_grow_2_0 21 rfl rfl)
theorem dJ2_grow_2_22 : decode cJ2_grow_2 22 = .ok (.iload_n 2, 1) := dk_28 (dk_at dksJ2_grow_2_0 22 rfl rfl)
theorem dJ2_grow_2_23 : decode cJ2_grow_2 23 = .ok (.isub, 1) := dk_100 (dk_at dksJ2_grow_2_0 23 rfl rfl)
theorem dJ2_grow_2_24 : decode cJ2_grow_2 24 = .ok (.iload_n 2, 1) := dk_28 (dk_at dksJ2_grow_2_1 0 rfl rfl)
theorem dJ2_grow_2_25 : decode cJ2_grow_2 25 = .ok (.iconst 1, 1) := dk_4 (dk_at dksJ2_grow_2_1 1 rfl rfl)
theorem dJ2_grow_2_26 : decode cJ2_grow_2 26 = .ok (.ishr, 1) := dk_122 (dk_at dksJ2_grow_2_1 2 rfl rfl)
theorem dJ2_grow_2_27 : decode cJ2_grow_2 27 = .ok (.invokestatic 73, 3) := dk_184 0 73 (dk_at dksJ2_grow_2_1 3 rfl rfl)
theorem dJ2_grow_2_30 : decode cJ2_grow_2 30 = .ok (.istore_n 3, 1) := dk_62 (dk_at dksJ2_grow_2_1 6 rfl rfl)
theorem dJ2_grow_2_31 : decode cJ2_grow_2 31 = .ok (.aload_n 0, 1) := dk_42 (dk_at dksJ2_grow_2_1 7 rfl rfl)
theorem dJ2_grow_2_32 : decode cJ2_grow_2 32 = .ok (.aload_n 0, 1) := dk_42 (dk_at dksJ2_grow_2_1 8 rfl rfl)
theorem dJ2_grow_2_33 : decode cJ2_grow_2 33 = .ok (.getfield 9, 3) := dk_180 0 9 (dk_at dksJ2_grow_2_1 9 rfl rfl)
theorem dJ2_grow_2_36 : decode cJ2_grow_2 36 = .ok (.iload_n 3, 1) := dk_29 (dk_at dksJ2_grow_2_1 12 rfl rfl)
theorem dJ2_grow_2_37 : decode cJ2_grow_2 37 = .ok (.invokestatic 66, 3) := dk_184 0 66 (dk_at dksJ2_grow_2_1 13 rfl rfl)
theorem dJ2_grow_2_40 : decode cJ2_grow_2 40 = .ok (.dup_x1, 1) := dk_90 (dk_at dksJ2_grow_2_1 16 rfl rfl)
theorem dJ2_grow_2_41 : decode cJ2_grow_2 41 = .ok (.putfield 9, 3) := dk_181 0 9 (dk_at dksJ2_grow_2_1 17 rfl rfl)
theorem dJ2_grow_2_44 : decode cJ2_grow_2 44 = .ok (.areturn, 1) := dk_176 (dk_at dksJ2_grow_2_1 20 rfl rfl)
theorem dJ2_grow_2_45 : decode cJ2_grow_2 45 = .ok (.aload_n 0, 1) := dk_42 (dk_at dksJ2_grow_2_1 21 rfl rfl)
theorem dJ2_grow_2_46 : decode cJ2_grow_2 46 = .ok (.bipush 10, 2) := dk_16 10 (dk_at dksJ2_grow_2_1 22 rfl rfl)
theorem dJ2_grow_2_48 : decode cJ2_grow_2 48 = .ok (.iload_n 1, 1) := dk_27 (dk_at dksJ2_grow_2_2 0 rfl rfl)
theorem dJ2_grow_2_49 : decode cJ2_grow_2 49 = .ok (.invokestatic 79, 3) := dk_184 0 79 (dk_at dksJ2_grow_2_2 1 rfl rfl)
theorem dJ2_grow_2_52 : decode cJ2_grow_2 52 = .ok (.anewarray 7, 3) := dk_189 0 7 (dk_at dksJ2_grow_2_2 4 rfl rfl)
theorem dJ2_grow_2_55 : decode cJ2_grow_2 55 = .ok (.dup_x1, 1) := dk_90 (dk_at dksJ2_grow_2_2 7 rfl rfl)
theorem dJ2_grow_2_56 : decode cJ2_grow_2 56 = .ok (.putfield 9, 3) := dk_181 0 9 (dk_at dksJ2_grow_2_2 8 rfl rfl)
theorem dJ2_grow_2_59 : decode cJ2_grow_2 59 = .ok (.areturn, 1) := dk_176 (dk_at dksJ2_grow_2_2 11 rfl rfl)
abbrev cJ2_get : ByteArray := prog_46_method_20_code
def yJ2_get : MethodName := ⟨RJ2, "get", "(I)Ljava/lang/Object;"⟩
def dkwJ2_get_0 : List UInt8 := [27, 42, 180, 0, 48, 184, 0, 118, 87, 42, 27, 182, 0, 123, 176]
abbrev dktJ2_get_0 : List UInt8 := dkwJ2_get_0 ++ []
theorem dksJ2_get_0 : cJ2_get.data.toList.drop 0 = dktJ2_get_0 := by decide +kernel
theorem dJ2_get_0 : decode cJ2_get 0 = .ok (.iload_n 1, 1) := dk_27 (dk_at dksJ2_get_0 0 rfl rfl)
theorem dJ2_get_1 : decode cJ2_get 1 = .ok (.aload_n 0, 1) := dk_42 (dk_at dksJ2_get_0 1 rfl rfl)
theorem dJ2_get_2 : decode cJ2_get 2 = .ok (.getfield 48, 3) := dk_180 0 48 (dk_at dksJ2_get_0 2 rfl rfl)
theorem dJ2_get_5 : decode cJ2_get 5 = .ok (.invokestatic 118, 3) := dk_184 0 118 (dk_at dksJ2_get_0 5 rfl rfl)
theorem dJ2_get_8 : decode cJ2_get 8 = .ok (.pop, 1) := dk_87 (dk_at dksJ2_get_0 8 rfl rfl)
theorem dJ2_get_9 : decode cJ2_get 9 = .ok (.aload_n 0, 1) := dk_42 (dk_at dksJ2_get_0 9 rfl rfl)
theorem dJ2_get_10 : decode cJ2_get 10 = .ok (.iload_n 1, 1) := dk_27 (dk_at dksJ2_get_0 10 rfl rfl)
theorem dJ2_get_11 : decode cJ2_get 11 = .ok (.invokevirtual 123, 3) := dk_182 0 123 (dk_at dksJ2_get_0 11 rfl rfl)
theorem dJ2_get_14 : decode cJ2_get 14 = .ok (.areturn, 1) := dk_176 (dk_at dksJ2_get_0 14 rfl rfl)
abbrev cJ2_elementData : ByteArray := prog_46_method_18_code
def yJ2_elementData : MethodName := ⟨RJ2, "elementData", "(I)Ljava/lang/Object;"⟩
def dkwJ2_elementData_0 : List UInt8 := [42, 180, 0, 9, 27, 50, 176]
abbrev dktJ2_elementData_0 : List UInt8 := dkwJ2_elementData_0 ++ []
theorem dksJ2_elementData_0 : cJ2_elementData.data.toList.drop 0 = dktJ2_elementData_0 := by decide +kernel
theorem dJ2_elementData_0 : decode cJ2_elementData 0 = .ok (.aload_n 0, 1) := dk_42 (dk_at dksJ2_elementData_0 0 rfl rfl)
theorem dJ2_elementData_1 : decode cJ2_elementData 1 = .ok (.getfield 9, 3) := dk_180 0 9 (dk_at dksJ2_elementData_0 1 rfl rfl)
theorem dJ2_elementData_4 : decode cJ2_elementData 4 = .ok (.iload_n 1, 1) := dk_27 (dk_at dksJ2_elementData_0 4 rfl rfl)
theorem dJ2_elementData_5 : decode cJ2_elementData 5 = .ok (.aaload, 1) := dk_50 (dk_at dksJ2_elementData_0 5 rfl rfl)
theorem dJ2_elementData_6 : decode cJ2_elementData 6 = .ok (.areturn, 1) := dk_176 (dk_at dksJ2_elementData_0 6 rfl rfl)
abbrev cJ2_size : ByteArray := prog_46_method_8_code
def yJ2_size : MethodName := ⟨RJ2, "size", "()I"⟩
theorem dJ2_size_0 : decode cJ2_size 0 = .ok (.aload_n 0, 1) := by decide +kernel
theorem dJ2_size_1 : decode cJ2_size 1 = .ok (.getfield 48, 3) := by decide +kernel
theorem dJ2_size_4 : decode cJ2_size 4 = .ok (.ireturn, 1) := by decide +kernel
abbrev cJ2_clear : ByteArray := prog_46_method_40_code
def yJ2_clear : MethodName := ⟨RJ2, "clear", "()V"⟩
def dkwJ2_clear_1 : List UInt8 := [181, 0, 48, 62, 29, 28, 162, 0, 13, 43, 29, 1, 83, 132, 3, 1, 167, 255, 244, 177]
abbrev dktJ2_clear_1 : List UInt8 := dkwJ2_clear_1 ++ []
def dkwJ2_clear_0 : List UInt8 := [42, 89, 180, 0, 63, 4, 96, 181, 0, 63, 42, 180, 0, 9, 76, 42, 180, 0, 48, 61, 42, 3, 90]
abbrev dktJ2_clear_0 : List UInt8 := dkwJ2_clear_0 ++ dktJ2_clear_1
theorem dksJ2_clear_0 : cJ2_clear.data.toList.drop 0 = dktJ2_clear_0 := by decide +kernel
theorem dksJ2_clear_1 : cJ2_clear.data.toList.drop 23 = dktJ2_clear_1 := dk_seg dksJ2_clear_0 23 rfl rfl
theorem dJ2_clear_0 : decode cJ2_clear 0 = .ok (.aload_n 0, 1) := dk_42 (dk_at dksJ2_clear_0 0 rfl rfl)
theorem dJ2_clear_1 : decode cJ2_clear 1 = .ok (.dup, 1) := dk_89 (dk_at dksJ2_clear_0 1 rfl rfl)
theorem dJ2_clear_2 : decode cJ2_clear 2 = .ok (.getfield 63, 3) := dk_180 0 63 (dk_at dksJ2_clear_0 2 rfl rfl)
theorem dJ2_clear_5 : decode cJ2_clear 5 = .ok (.iconst 1, 1) := dk_4 (dk_at dksJ2_clear_0 5 rfl rfl)
theorem dJ2_clear_6 : decode cJ2_clear 6 = .ok (.iadd, 1) := dk_96 (dk_at dksJ2_clear_0 6 rfl rfl)
theorem dJ2_clear_7 : decode cJ2_clear 7 = .ok (.putfield 63, 3) := dk_181 0 63 (dk_at dksJ2_clear_0 7 rfl rfl)
theorem dJ2_clear_10 : decode cJ2_clear 10 = .ok (.aload_n 0, 1) := dk_42 (dk_at dksJ2_clear_0 10 rfl rfl)
theorem dJ2_clear_11 : decode cJ2_clear 11 = .ok (.getfield 9, 3) := dk_180 0 9 (dk_at dksJ2_clear_0 11 rfl rfl)
theorem dJ2_clear_14 : decode cJ2_clear 14 = .ok (.astore_n 1, 1) := dk_76 (dk_at dksJ2_clear_0 14 rfl rfl)
theorem dJ2_clear_15 : decode cJ2_clear 15 = .ok (.aload_n 0, 1) := dk_42 (dk_at dksJ2_clear_0 15 rfl rfl)
theorem dJ2_clear_16 : decode cJ2_clear 16 = .ok (.getfield 48, 3) := dk_180 0 48 (dk_at dksJ2_clear_0 16 rfl rfl)
theorem dJ2_clear_19 : decode cJ2_clear 19 = .ok (.istore_n 2, 1) := dk_61 (dk_at dksJ2_clear_0 19 rfl rfl)
theorem dJ2_clear_20 : decode cJ2_clear 20 = .ok (.aload_n 0, 1) := dk_42 (dk_at dksJ2_clear_0 20 rfl rfl)
theorem dJ2_clear_21 : decode cJ2_clear 21 = .ok (.iconst 0, 1) := dk_3 (dk_at dksJ2_clear_0 21 rfl rfl)
theorem dJ2_clear_22 : decode cJ2_clear 22 = .ok (.dup_x1, 1) := dk_90 (dk_at dksJ2_clear_0 22 rfl rfl)
theorem dJ2_clear_23 : decode cJ2_clear 23 = .ok (.putfield 48, 3) := dk_181 0 48 (dk_at dksJ2_clear_1 0 rfl rfl)
theorem dJ2_clear_26 : decode cJ2_clear 26 = .ok (.istore_n 3, 1) := dk_62 (dk_at dksJ2_clear_1 3 rfl rfl)
theorem dJ2_clear_27 : decode cJ2_clear 27 = .ok (.iload_n 3, 1) := dk_29 (dk_at dksJ2_clear_1 4 rfl rfl)
theorem dJ2_clear_28 : decode cJ2_clear 28 = .ok (.iload_n 2, 1) := dk_28 (dk_at dksJ2_clear_1 5 rfl rfl)
theorem dJ2_clear_29 : decode cJ2_clear 29 = .ok (.if_icmp .ge 13, 3) := dk_162 0 13 (dk_at dksJ2_clear_1 6 rfl rfl)
theorem dJ2_clear_32 : decode cJ2_clear 32 = .ok (.aload_n 1, 1) := dk_43 (dk_at dksJ2_clear_1 9 rfl rfl)
theorem dJ2_clear_33 : decode cJ2_clear 33 = .ok (.iload_n 3, 1) := dk_29 (dk_at dksJ2_clear_1 10 rfl rfl)
theorem dJ2_clear_34 : decode cJ2_clear 34 = .ok (.aconst_null, 1) := dk_1 (dk_at dksJ2_clear_1 11 rfl rfl)
theorem dJ2_clear_35 : decode cJ2_clear 35 = .ok (.aastore, 1) := dk_83 (dk_at dksJ2_clear_1 12 rfl rfl)
theorem dJ2_clear_36 : decode cJ2_clear 36 = .ok (.iinc 3 1, 3) := dk_132 3 1 (dk_at dksJ2_clear_1 13 rfl rfl)
theorem dJ2_clear_39 : decode cJ2_clear 39 = .ok (.goto (-12), 3) := dk_167 255 244 (dk_at dksJ2_clear_1 16 rfl rfl)
theorem dJ2_clear_42 : decode cJ2_clear 42 = .ok (.return_, 1) := dk_177 (dk_at dksJ2_clear_1 19 rfl rfl)
abbrev cJ2_set : ByteArray := prog_46_method_23_code
def yJ2_set : MethodName := ⟨RJ2, "set", "(ILjava/lang/Object;)Ljava/lang/Object;"⟩
def dkwJ2_set_0 : List UInt8 := [27, 42, 180, 0, 48, 184, 0, 118, 87, 42, 27, 182, 0, 123, 78, 42, 180, 0, 9, 27, 44, 83, 45, 176]
abbrev dktJ2_set_0 : List UInt8 := dkwJ2_set_0 ++ []
theorem dksJ2_set_0 : cJ2_set.data.toList.drop 0 = dktJ2_set_0 := by decide +kernel
theorem dJ2_set_0 : decode cJ2_set 0 = .ok (.iload_n 1, 1) := dk_27 (dk_at dksJ2_set_0 0 rfl rfl)
theorem dJ2_set_1 : decode cJ2_set 1 = .ok (.aload_n 0, 1) := dk_42 (dk_at dksJ2_set_0 1 rfl rfl)
theorem dJ2_set_2 : decode cJ2_set 2 = .ok (.getfield 48, 3) := dk_180 0 48 (dk_at dksJ2_set_0 2 rfl rfl)
theorem dJ2_set_5 : decode cJ2_set 5 = .ok (.invokestatic 118, 3) := dk_184 0 118 (dk_at dksJ2_set_0 5 rfl rfl)
theorem dJ2_set_8 : decode cJ2_set 8 = .ok (.pop, 1) := dk_87 (dk_at dksJ2_set_0 8 rfl rfl)
theorem dJ2_set_9 : decode cJ2_set 9 = .ok (.aload_n 0, 1) := dk_42 (dk_at dksJ2_set_0 9 rfl rfl)
theorem dJ2_set_10 : decode cJ2_set 10 = .ok (.iload_n 1, 1) := dk_27 (dk_at dksJ2_set_0 10 rfl rfl)
theorem dJ2_set_11 : decode cJ2_set 11 = .ok (.invokevirtual 123, 3) := dk_182 0 123 (dk_at dksJ2_set_0 11 rfl rfl)
theorem dJ2_set_14 : decode cJ2_set 14 = .ok (.astore_n 3, 1) := dk_78 (dk_at dksJ2_set_0 14 rfl rfl)
theorem dJ2_set_15 : decode cJ2_set 15 = .ok (.aload_n 0, 1) := dk_42 (dk_at dksJ2_set_0 15 rfl rfl)
theorem dJ2_set_16 : decode cJ2_set 16 = .ok (.getfield 9, 3) := dk_180 0 9 (dk_at dksJ2_set_0 16 rfl rfl)
theorem dJ2_set_19 : decode cJ2_set 19 = .ok (.iload_n 1, 1) := dk_27 (dk_at dksJ2_set_0 19 rfl rfl)
theorem dJ2_set_20 : decode cJ2_set 20 = .ok (.aload_n 2, 1) := dk_44 (dk_at dksJ2_set_0 20 rfl rfl)
theorem dJ2_set_21 : decode cJ2_set 21 = .ok (.aastore, 1) := dk_83 (dk_at dksJ2_set_0 21 rfl rfl)
theorem dJ2_set_22 : decode cJ2_set 22 = .ok (.aload_n 3, 1) := dk_45 (dk_at dksJ2_set_0 22 rfl rfl)
theorem dJ2_set_23 : decode cJ2_set 23 = .ok (.areturn, 1) := dk_176 (dk_at dksJ2_set_0 23 rfl rfl)
abbrev cJ2_add_3 : ByteArray := prog_46_method_26_code
def yJ2_add_3 : MethodName := ⟨RJ2, "add", "(ILjava/lang/Object;)V"⟩
def dkwJ2_add_3_2 : List UInt8 := [29, 27, 100, 184, 0, 112, 25, 4, 27, 44, 83, 42, 29, 4, 96, 181, 0, 48, 177]
abbrev dktJ2_add_3_2 : List UInt8 := dkwJ2_add_3_2 ++ []
def dkwJ2_add_3_1 : List UInt8 := [180, 0, 9, 89, 58, 4, 190, 160, 0, 9, 42, 182, 0, 129, 58, 4, 25, 4, 27, 25, 4, 27, 4, 96]
abbrev dktJ2_add_3_1 : List UInt8 := dkwJ2_add_3_1 ++ dktJ2_add_3_2
def dkwJ2_add_3_0 : List UInt8 := [42, 27, 182, 0, 135, 42, 89, 180, 0, 63, 4, 96, 181, 0, 63, 42, 180, 0, 48, 89, 62, 42]
abbrev dktJ2_add_3_0 : List UInt8 := dkwJ2_add_3_0 ++ dktJ2_add_3_1
theorem dksJ2_add_3_0 : cJ2_add_3.data.toList.drop 0 = dktJ2_add_3_0 := by decide +kernel
theorem dksJ2_add_3_1 : cJ2_add_3.data.toList.drop 22 = dktJ2_add_3_1 := dk_seg dksJ2_add_3_0 22 rfl rfl
theorem dksJ2_add_3_2 : cJ2_add_3.data.toList.drop 46 = dktJ2_add_3_2 := dk_seg dksJ2_add_3_1 24 rfl rfl
theorem dJ2_add_3_0 : decode cJ2_add_3 0 = .ok (.aload_n 0, 1) := dk_42 (dk_at dksJ2_add_3_0 0 rfl rfl)
theorem dJ2_add_3_1 : decode cJ2_add_3 1 = .ok (.iload_n 1, 1) := dk_27 (dk_at dksJ2_add_3_0 1 rfl rfl)
theorem dJ2_add_3_2 : decode cJ2_add_3 2 = .ok (.invokevirtual 135, 3) := dk_182 0 135 (dk_at dksJ2_add_3_0 2 rfl rfl)
theorem dJ2_add_3_5 : decode cJ2_add_3 5 = .ok (.aload_n 0, 1) := dk_42 (dk_at dksJ2_add_3_0 5 rfl rfl)
theorem dJ2_add_3_6 : decode cJ2_add_3 6 = .ok (.dup, 1) := dk_89 (dk_at dksJ2_add_3_0 6 rfl rfl)
theorem dJ2_add_3_7 : decode cJ2_add_3 7 = .ok (.getfield 63, 3) := dk_180 0 63 (dk_at dksJ2_add_3_0 7 rfl rfl)
theorem dJ2_add_3_10 : decode cJ2_add_3 10 = .ok (.iconst 1, 1) := dk_4 (dk_at dksJ2_add_3_0 10 rfl rfl)
theorem dJ2_add_3_11 : decode cJ2_add_3 11 = .ok (.iadd, 1) := dk_96 (dk_at dksJ2_add_3_0 11 rfl rfl)
theorem dJ2_add_3_12 : decode cJ2_add_3 12 = .ok (.putfield 63, 3) := dk_181 0 63 (dk_at dksJ2_add_3_0 12 rfl rfl)
theorem dJ2_add_3_15 : decode cJ2_add_3 15 = .ok (.aload_n 0, 1) := dk_42 (dk_at dksJ2_add_3_0 15 rfl rfl)
theorem dJ2_add_3_16 : decode cJ2_add_3 16 = .ok (.getfield 48, 3) := dk_180 0 48 (dk_at dksJ2_add_3_0 16 rfl rfl)
theorem dJ2_add_3_19 : decode cJ2_add_3 19 = .ok (.dup, 1) := dk_89 (dk_at dksJ2_add_3_0 19 rfl rfl)
theorem dJ2_add_3_20 : decode cJ2_add_3 20 = .ok (.istore_n 3, 1) := dk_62 (dk_at dksJ2_add_3_0 20 rfl rfl)
theorem dJ2_add_3_21 : decode cJ2_add_3 21 = .ok (.aload_n 0, 1) := dk_42 (dk_at dksJ2_add_3_0 21 rfl rfl)
theorem dJ2_add_3_22 : decode cJ2_add_3 22 = .ok (.getfield 9, 3) := dk_180 0 9 (dk_at dksJ2_add_3_1 0 rfl rfl)
theorem dJ2_add_3_25 : decode cJ2_add_3 25 = .ok (.dup, 1) := dk_89 (dk_at dksJ2_add_3_1 3 rfl rfl)
theorem dJ2_add_3_26 : decode cJ2_add_3 26 = .ok (.astore 4, 2) := dk_58 4 (dk_at dksJ2_add_3_1 4 rfl rfl)
theorem dJ2_add_3_28 : decode cJ2_add_3 28 = .ok (.arraylength, 1) := dk_190 (dk_at dksJ2_add_3_1 6 rfl rfl)
theorem dJ2_add_3_29 : decode cJ2_add_3 29 = .ok (.if_icmp .ne 9, 3) := dk_160 0 9 (dk_at dksJ2_add_3_1 7 rfl rfl)
theorem dJ2_add_3_32 : decode cJ2_add_3 32 = .ok (.aload_n 0, 1) := dk_42 (dk_at dksJ2_add_3_1 10 rfl rfl)
theorem dJ2_add_3_33 : decode cJ2_add_3 33 = .ok (.invokevirtual 129, 3) := dk_182 0 129 (dk_at dksJ2_add_3_1 11 rfl rfl)
theorem dJ2_add_3_36 : decode cJ2_add_3 36 = .ok (.astore 4, 2) := dk_58 4 (dk_at dksJ2_add_3_1 14 rfl rfl)
theorem dJ2_add_3_38 : decode cJ2_add_3 38 = .ok (.aload 4, 2) := dk_25 4 (dk_at dksJ2_add_3_1 16 rfl rfl)
theorem dJ2_add_3_40 : decode cJ2_add_3 40 = .ok (.iload_n 1, 1) := dk_27 (dk_at dksJ2_add_3_1 18 rfl rfl)
theorem dJ2_add_3_41 : decode cJ2_add_3 41 = .ok (.aload 4, 2) := dk_25 4 (dk_at dksJ2_add_3_1 19 rfl rfl)
theorem dJ2_add_3_43 : decode cJ2_add_3 43 = .ok (.iload_n 1, 1) := dk_27 (dk_at dksJ2_add_3_1 21 rfl rfl)
theorem dJ2_add_3_44 : decode cJ2_add_3 44 = .ok (.iconst 1, 1) := dk_4 (dk_at dksJ2_add_3_1 22 rfl rfl)
theorem dJ2_add_3_45 : decode cJ2_add_3 45 = .ok (.iadd, 1) := dk_96 (dk_at dksJ2_add_3_1 23 rfl rfl)
theorem dJ2_add_3_46 : decode cJ2_add_3 46 = .ok (.iload_n 3, 1) := dk_29 (dk_at dksJ2_add_3_2 0 rfl rfl)
theorem dJ2_add_3_47 : decode cJ2_add_3 47 = .ok (.iload_n 1, 1) := dk_27 (dk_at dksJ2_add_3_2 1 rfl rfl)
theorem dJ2_add_3_48 : decode cJ2_add_3 48 = .ok (.isub, 1) := dk_100 (dk_at dksJ2_add_3_2 2 rfl rfl)
theorem dJ2_add_3_49 : decode cJ2_add_3 49 = .ok (.invokestatic 112, 3) := dk_184 0 112 (dk_at dksJ2_add_3_2 3 rfl rfl)
theorem dJ2_add_3_52 : decode cJ2_add_3 52 = .ok (.aload 4, 2) := dk_25 4 (dk_at dksJ2_add_3_2 6 rfl rfl)
theorem dJ2_add_3_54 : decode cJ2_add_3 54 = .ok (.iload_n 1, 1) := dk_27 (dk_at dksJ2_add_3_2 8 rfl rfl)
theorem dJ2_add_3_55 : decode cJ2_add_3 55 = .ok (.aload_n 2, 1) := dk_44 (dk_at dksJ2_add_3_2 9 rfl rfl)
theorem dJ2_add_3_56 : decode cJ2_add_3 56 = .ok (.aastore, 1) := dk_83 (dk_at dksJ2_add_3_2 10 rfl rfl)
theorem dJ2_add_3_57 : decode cJ2_add_3 57 = .ok (.aload_n 0, 1) := dk_42 (dk_at dksJ2_add_3_2 11 rfl rfl)
theorem dJ2_add_3_58 : decode cJ2_add_3 58 = .ok (.iload_n 3, 1) := dk_29 (dk_at dksJ2_add_3_2 12 rfl rfl)
theorem dJ2_add_3_59 : decode cJ2_add_3 59 = .ok (.iconst 1, 1) := dk_4 (dk_at dksJ2_add_3_2 13 rfl rfl)
theorem dJ2_add_3_60 : decode cJ2_add_3 60 = .ok (.iadd, 1) := dk_96 (dk_at dksJ2_add_3_2 14 rfl rfl)
theorem dJ2_add_3_61 : decode cJ2_add_3 61 = .ok (.putfield 48, 3) := dk_181 0 48 (dk_at dksJ2_add_3_2 15 rfl rfl)
theorem dJ2_add_3_64 : decode cJ2_add_3 64 = .ok (.return_, 1) := dk_177 (dk_at dksJ2_add_3_2 18 rfl rfl)
abbrev cJ2_rangeCheckForAdd : ByteArray := prog_46_method_45_code
def yJ2_rangeCheckForAdd : MethodName := ⟨RJ2, "rangeCheckForAdd", "(I)V"⟩
def dkwJ2_rangeCheckForAdd_1 : List UInt8 := [191, 177]
abbrev dktJ2_rangeCheckForAdd_1 : List UInt8 := dkwJ2_rangeCheckForAdd_1 ++ []
def dkwJ2_rangeCheckForAdd_0 : List UInt8 := [27, 42, 180, 0, 48, 163, 0, 7, 27, 156, 0, 16, 187, 0, 187, 89, 42, 27, 182, 0, 198, 183, 0, 193]
abbrev dktJ2_rangeCheckForAdd_0 : List UInt8 := dkwJ2_rangeCheckForAdd_0 ++ dktJ2_rangeCheckForAdd_1
theorem dksJ2_rangeCheckForAdd_0 : cJ2_rangeCheckForAdd.data.toList.drop 0 = dktJ2_rangeCheckForAdd_0 := by decide +kernel
theorem dksJ2_rangeCheckForAdd_1 : cJ2_rangeCheckForAdd.data.toList.drop 24 = dktJ2_rangeCheckForAdd_1 := dk_seg dksJ2_rangeCheckForAdd_0 24 rfl rfl
theorem dJ2_rangeCheckForAdd_0 : decode cJ2_rangeCheckForAdd 0 = .ok (.iload_n 1, 1) := dk_27 (dk_at dksJ2_rangeCheckForAdd_0 0 rfl rfl)
theorem dJ2_rangeCheckForAdd_1 : decode cJ2_rangeCheckForAdd 1 = .ok (.aload_n 0, 1) := dk_42 (dk_at dksJ2_rangeCheckForAdd_0 1 rfl rfl)
theorem dJ2_rangeCheckForAdd_2 : decode cJ2_rangeCheckForAdd 2 = .ok (.getfield 48, 3) := dk_180 0 48 (dk_at dksJ2_rangeCheckForAdd_0 2 rfl rfl)
theorem dJ2_rangeCheckForAdd_5 : decode cJ2_rangeCheckForAdd 5 = .ok (.if_icmp .gt 7, 3) := dk_163 0 7 (dk_at dksJ2_rangeCheckForAdd_0 5 rfl rfl)
theorem dJ2_rangeCheckForAdd_8 : decode cJ2_rangeCheckForAdd 8 = .ok (.iload_n 1, 1) := dk_27 (dk_at dksJ2_rangeCheckForAdd_0 8 rfl rfl)
theorem dJ2_rangeCheckForAdd_9 : decode cJ2_rangeCheckForAdd 9 = .ok (.ifCond .ge 16, 3) := dk_156 0 16 (dk_at dksJ2_rangeCheckForAdd_0 9 rfl rfl)
theorem dJ2_rangeCheckForAdd_12 : decode cJ2_rangeCheckForAdd 12 = .ok (.new 187, 3) := dk_187 0 187 (dk_at dksJ2_rangeCheckForAdd_0 12 rfl rfl)
theorem dJ2_rangeCheckForAdd_15 : decode cJ2_rangeCheckForAdd 15 = .ok (.dup, 1) := dk_89 (dk_at dksJ2_rangeCheckForAdd_0 15 rfl rfl)
theorem dJ2_rangeCheckForAdd_16 : decode cJ2_rangeCheckForAdd 16 = .ok (.aload_n 0, 1) := dk_42 (dk_at dksJ2_rangeCheckForAdd_0 16 rfl rfl)
theorem dJ2_rangeCheckForAdd_17 : decode cJ2_rangeCheckForAdd 17 = .ok (.iload_n 1, 1) := dk_27 (dk_at dksJ2_rangeCheckForAdd_0 17 rfl rfl)
theorem dJ2_rangeCheckForAdd_18 : decode cJ2_rangeCheckForAdd 18 = .ok (.invokevirtual 198, 3) := dk_182 0 198 (dk_at dksJ2_rangeCheckForAdd_0 18 rfl rfl)
theorem dJ2_rangeCheckForAdd_21 : decode cJ2_rangeCheckForAdd 21 = .ok (.invokespecial 193, 3) := dk_183 0 193 (dk_at dksJ2_rangeCheckForAdd_0 21 rfl rfl)
theorem dJ2_rangeCheckForAdd_24 : decode cJ2_rangeCheckForAdd 24 = .ok (.athrow, 1) := dk_191 (dk_at dksJ2_rangeCheckForAdd_1 0 rfl rfl)
theorem dJ2_rangeCheckForAdd_25 : decode cJ2_rangeCheckForAdd 25 = .ok (.return_, 1) := dk_177 (dk_at dksJ2_rangeCheckForAdd_1 1 rfl rfl)
abbrev cJ2_outOfBoundsMsg : ByteArray := prog_46_method_46_code
def yJ2_outOfBoundsMsg : MethodName := ⟨RJ2, "outOfBoundsMsg", "(I)Ljava/lang/String;"⟩
def dkwJ2_outOfBoundsMsg_1 : List UInt8 := [180, 0, 48, 182, 0, 29, 182, 0, 32, 176]
abbrev dktJ2_outOfBoundsMsg_1 : List UInt8 := dkwJ2_outOfBoundsMsg_1 ++ []
def dkwJ2_outOfBoundsMsg_0 : List UInt8 := [187, 0, 20, 89, 183, 0, 22, 18, 201, 182, 0, 25, 27, 182, 0, 29, 18, 203, 182, 0, 25, 42]
abbrev dktJ2_outOfBoundsMsg_0 : List UInt8 := dkwJ2_outOfBoundsMsg_0 ++ dktJ2_outOfBoundsMsg_1
theorem dksJ2_outOfBoundsMsg_0 : cJ2_outOfBoundsMsg.data.toList.drop 0 = dktJ2_outOfBoundsMsg_0 := by decide +kernel
theorem dksJ2_outOfBoundsMsg_1 : cJ2_outOfBoundsMsg.data.toList.drop 22 = dktJ2_outOfBoundsMsg_1 := dk_seg dksJ2_outOfBoundsMsg_0 22 rfl rfl
theorem dJ2_outOfBoundsMsg_0 : decode cJ2_outOfBoundsMsg 0 = .ok (.new 20, 3) := dk_187 0 20 (dk_at dksJ2_outOfBoundsMsg_0 0 rfl rfl)
theorem dJ2_outOfBoundsMsg_3 : decode cJ2_outOfBoundsMsg 3 = .ok (.dup, 1) := dk_89 (dk_at dksJ2_outOfBoundsMsg_0 3 rfl rfl)
theorem dJ2_outOfBoundsMsg_4 : decode cJ2_outOfBoundsMsg 4 = .ok (.invokespecial 22, 3) := dk_183 0 22 (dk_at dksJ2_outOfBoundsMsg_0 4 rfl rfl)
theorem dJ2_outOfBoundsMsg_7 : decode cJ2_outOfBoundsMsg 7 = .ok (.ldc 201, 2) := dk_18 201 (dk_at dksJ2_outOfBoundsMsg_0 7 rfl rfl)
theorem dJ2_outOfBoundsMsg_9 : decode cJ2_outOfBoundsMsg 9 = .ok (.invokevirtual 25, 3) := dk_182 0 25 (dk_at dksJ2_outOfBoundsMsg_0 9 rfl rfl)
theorem dJ2_outOfBoundsMsg_12 : decode cJ2_outOfBoundsMsg 12 = .ok (.iload_n 1, 1) := dk_27 (dk_at dksJ2_outOfBoundsMsg_0 12 rfl rfl)
theorem dJ2_outOfBoundsMsg_13 : decode cJ2_outOfBoundsMsg 13 = .ok (.invokevirtual 29, 3) := dk_182 0 29 (dk_at dksJ2_outOfBoundsMsg_0 13 rfl rfl)
theorem dJ2_outOfBoundsMsg_16 : decode cJ2_outOfBoundsMsg 16 = .ok (.ldc 203, 2) := dk_18 203 (dk_at dksJ2_outOfBoundsMsg_0 16 rfl rfl)
theorem dJ2_outOfBoundsMsg_18 : decode cJ2_outOfBoundsMsg 18 = .ok (.invokevirtual 25, 3) := dk_182 0 25 (dk_at dksJ2_outOfBoundsMsg_0 18 rfl rfl)
theorem dJ2_outOfBoundsMsg_21 : decode cJ2_outOfBoundsMsg 21 = .ok (.aload_n 0, 1) := dk_42 (dk_at dksJ2_outOfBoundsMsg_0 21 rfl rfl)
theorem dJ2_outOfBoundsMsg_22 : decode cJ2_outOfBoundsMsg 22 = .ok (.getfield 48, 3) := dk_180 0 48 (dk_at dksJ2_outOfBoundsMsg_1 0 rfl rfl)
theorem dJ2_outOfBoundsMsg_25 : decode cJ2_outOfBoundsMsg 25 = .ok (.invokevirtual 29, 3) := dk_182 0 29 (dk_at dksJ2_outOfBoundsMsg_1 3 rfl rfl)
theorem dJ2_outOfBoundsMsg_28 : decode cJ2_outOfBoundsMsg 28 = .ok (.invokevirtual 32, 3) := dk_182 0 32 (dk_at dksJ2_outOfBoundsMsg_1 6 rfl rfl)
theorem dJ2_outOfBoundsMsg_31 : decode cJ2_outOfBoundsMsg 31 = .ok (.areturn, 1) := dk_176 (dk_at dksJ2_outOfBoundsMsg_1 9 rfl rfl)
abbrev cJ2_remove : ByteArray := prog_46_method_29_code
def yJ2_remove : MethodName := ⟨RJ2, "remove", "(I)Ljava/lang/Object;"⟩
def dkwJ2_remove_1 : List UInt8 := [45, 176]
abbrev dktJ2_remove_1 : List UInt8 := dkwJ2_remove_1 ++ []
def dkwJ2_remove_0 : List UInt8 := [27, 42, 180, 0, 48, 184, 0, 118, 87, 42, 180, 0, 9, 77, 44, 27, 50, 78, 42, 44, 27, 182, 0, 144]
abbrev dktJ2_remove_0 : List UInt8 := dkwJ2_remove_0 ++ dktJ2_remove_1
theorem dksJ2_remove_0 : cJ2_remove.data.toList.drop 0 = dktJ2_remove_0 := by decide +kernel
theorem dksJ2_remove_1 : cJ2_remove.data.toList.drop 24 = dktJ2_remove_1 := dk_seg dksJ2_remove_0 24 rfl rfl
theorem dJ2_remove_0 : decode cJ2_remove 0 = .ok (.iload_n 1, 1) := dk_27 (dk_at dksJ2_remove_0 0 rfl rfl)
theorem dJ2_remove_1 : decode cJ2_remove 1 = .ok (.aload_n 0, 1) := dk_42 (dk_at dksJ2_remove_0 1 rfl rfl)
theorem dJ2_remove_2 : decode cJ2_remove 2 = .ok (.getfield 48, 3) := dk_180 0 48 (dk_at dksJ2_remove_0 2 rfl rfl)
theorem dJ2_remove_5 : decode cJ2_remove 5 = .ok (.invokestatic 118, 3) := dk_184 0 118 (dk_at dksJ2_remove_0 5 rfl rfl)
theorem dJ2_remove_8 : decode cJ2_remove 8 = .ok (.pop, 1) := dk_87 (dk_at dksJ2_remove_0 8 rfl rfl)
theorem dJ2_remove_9 : decode cJ2_remove 9 = .ok (.aload_n 0, 1) := dk_42 (dk_at dksJ2_remove_0 9 rfl rfl)
theorem dJ2_remove_10 : decode cJ2_remove 10 = .ok (.getfield 9, 3) := dk_180 0 9 (dk_at dksJ2_remove_0 10 rfl rfl)
theorem dJ2_remove_13 : decode cJ2_remove 13 = .ok (.astore_n 2, 1) := dk_77 (dk_at dksJ2_remove_0 13 rfl rfl)
theorem dJ2_remove_14 : decode cJ2_remove 14 = .ok (.aload_n 2, 1) := dk_44 (dk_at dksJ2_remove_0 14 rfl rfl)
theorem dJ2_remove_15 : decode cJ2_remove 15 = .ok (.iload_n 1, 1) := dk_27 (dk_at dksJ2_remove_0 15 rfl rfl)
theorem dJ2_remove_16 : decode cJ2_remove 16 = .ok (.aaload, 1) := dk_50 (dk_at dksJ2_remove_0 16 rfl rfl)
theorem dJ2_remove_17 : decode cJ2_remove 17 = .ok (.astore_n 3, 1) := dk_78 (dk_at dksJ2_remove_0 17 rfl rfl)
theorem dJ2_remove_18 : decode cJ2_remove 18 = .ok (.aload_n 0, 1) := dk_42 (dk_at dksJ2_remove_0 18 rfl rfl)
theorem dJ2_remove_19 : decode cJ2_remove 19 = .ok (.aload_n 2, 1) := dk_44 (dk_at dksJ2_remove_0 19 rfl rfl)
theorem dJ2_remove_20 : decode cJ2_remove 20 = .ok (.iload_n 1, 1) := dk_27 (dk_at dksJ2_remove_0 20 rfl rfl)
theorem dJ2_remove_21 : decode cJ2_remove 21 = .ok (.invokevirtual 144, 3) := dk_182 0 144 (dk_at dksJ2_remove_0 21 rfl rfl)
theorem dJ2_remove_24 : decode cJ2_remove 24 = .ok (.aload_n 3, 1) := dk_45 (dk_at dksJ2_remove_1 0 rfl rfl)
theorem dJ2_remove_25 : decode cJ2_remove 25 = .ok (.areturn, 1) := dk_176 (dk_at dksJ2_remove_1 1 rfl rfl)
abbrev cJ2_fastRemove : ByteArray := prog_46_method_39_code
def yJ2_fastRemove : MethodName := ⟨RJ2, "fastRemove", "([Ljava/lang/Object;I)V"⟩
def dkwJ2_fastRemove_1 : List UInt8 := [4, 96, 43, 28, 29, 28, 100, 184, 0, 112, 43, 42, 29, 90, 181, 0, 48, 1, 83, 177]
abbrev dktJ2_fastRemove_1 : List UInt8 := dkwJ2_fastRemove_1 ++ []
def dkwJ2_fastRemove_0 : List UInt8 := [42, 89, 180, 0, 63, 4, 96, 181, 0, 63, 42, 180, 0, 48, 4, 100, 89, 62, 28, 164, 0, 15, 43, 28]
abbrev dktJ2_fastRemove_0 : List UInt8 := dkwJ2_fastRemove_0 ++ dktJ2_fastRemove_1
theorem dksJ2_fastRemove_0 : cJ2_fastRemove.data.toList.drop 0 = dktJ2_fastRemove_0 := by decide +kernel
theorem dksJ2_fastRemove_1 : cJ2_fastRemove.data.toList.drop 24 = dktJ2_fastRemove_1 := dk_seg dksJ2_fastRemove_0 24 rfl rfl
theorem dJ2_fastRemove_0 : decode cJ2_fastRemove 0 = .ok (.aload_n 0, 1) := dk_42 (dk_at dksJ2_fastRemove_0 0 rfl rfl)
theorem dJ2_fastRemove_1 : decode cJ2_fastRemove 1 = .ok (.dup, 1) := dk_89 (dk_at dksJ2_fastRemove_0 1 rfl rfl)
theorem dJ2_fastRemove_2 : decode cJ2_fastRemove 2 = .ok (.getfield 63, 3) := dk_180 0 63 (dk_at dksJ2_fastRemove_0 2 rfl rfl)
theorem dJ2_fastRemove_5 : decode cJ2_fastRemove 5 = .ok (.iconst 1, 1) := dk_4 (dk_at dksJ2_fastRemove_0 5 rfl rfl)
theorem dJ2_fastRemove_6 : decode cJ2_fastRemove 6 = .ok (.iadd, 1) := dk_96 (dk_at dksJ2_fastRemove_0 6 rfl rfl)
theorem dJ2_fastRemove_7 : decode cJ2_fastRemove 7 = .ok (.putfield 63, 3) := dk_181 0 63 (dk_at dksJ2_fastRemove_0 7 rfl rfl)
theorem dJ2_fastRemove_10 : decode cJ2_fastRemove 10 = .ok (.aload_n 0, 1) := dk_42 (dk_at dksJ2_fastRemove_0 10 rfl rfl)
theorem dJ2_fastRemove_11 : decode cJ2_fastRemove 11 = .ok (.getfield 48, 3) := dk_180 0 48 (dk_at dksJ2_fastRemove_0 11 rfl rfl)
theorem dJ2_fastRemove_14 : decode cJ2_fastRemove 14 = .ok (.iconst 1, 1) := dk_4 (dk_at dksJ2_fastRemove_0 14 rfl rfl)
theorem dJ2_fastRemove_15 : decode cJ2_fastRemove 15 = .ok (.isub, 1) := dk_100 (dk_at dksJ2_fastRemove_0 15 rfl rfl)
theorem dJ2_fastRemove_16 : decode cJ2_fastRemove 16 = .ok (.dup, 1) := dk_89 (dk_at dksJ2_fastRemove_0 16 rfl rfl)
theorem dJ2_fastRemove_17 : decode cJ2_fastRemove 17 = .ok (.istore_n 3, 1) := dk_62 (dk_at dksJ2_fastRemove_0 17 rfl rfl)
theorem dJ2_fastRemove_18 : decode cJ2_fastRemove 18 = .ok (.iload_n 2, 1) := dk_28 (dk_at dksJ2_fastRemove_0 18 rfl rfl)
theorem dJ2_fastRemove_19 : decode cJ2_fastRemove 19 = .ok (.if_icmp .le 15, 3) := dk_164 0 15 (dk_at dksJ2_fastRemove_0 19 rfl rfl)
theorem dJ2_fastRemove_22 : decode cJ2_fastRemove 22 = .ok (.aload_n 1, 1) := dk_43 (dk_at dksJ2_fastRemove_0 22 rfl rfl)
theorem dJ2_fastRemove_23 : decode cJ2_fastRemove 23 = .ok (.iload_n 2, 1) := dk_28 (dk_at dksJ2_fastRemove_0 23 rfl rfl)
theorem dJ2_fastRemove_24 : decode cJ2_fastRemove 24 = .ok (.iconst 1, 1) := dk_4 (dk_at dksJ2_fastRemove_1 0 rfl rfl)
theorem dJ2_fastRemove_25 : decode cJ2_fastRemove 25 = .ok (.iadd, 1) := dk_96 (dk_at dksJ2_fastRemove_1 1 rfl rfl)
theorem dJ2_fastRemove_26 : decode cJ2_fastRemove 26 = .ok (.aload_n 1, 1) := dk_43 (dk_at dksJ2_fastRemove_1 2 rfl rfl)
theorem dJ2_fastRemove_27 : decode cJ2_fastRemove 27 = .ok (.iload_n 2, 1) := dk_28 (dk_at dksJ2_fastRemove_1 3 rfl rfl)
theorem dJ2_fastRemove_28 : decode cJ2_fastRemove 28 = .ok (.iload_n 3, 1) := dk_29 (dk_at dksJ2_fastRemove_1 4 rfl rfl)
theorem dJ2_fastRemove_29 : decode cJ2_fastRemove 29 = .ok (.iload_n 2, 1) := dk_28 (dk_at dksJ2_fastRemove_1 5 rfl rfl)
theorem dJ2_fastRemove_30 : decode cJ2_fastRemove 30 = .ok (.isub, 1) := dk_100 (dk_at dksJ2_fastRemove_1 6 rfl rfl)
theorem dJ2_fastRemove_31 : decode cJ2_fastRemove 31 = .ok (.invokestatic 112, 3) := dk_184 0 112 (dk_at dksJ2_fastRemove_1 7 rfl rfl)
theorem dJ2_fastRemove_34 : decode cJ2_fastRemove 34 = .ok (.aload_n 1, 1) := dk_43 (dk_at dksJ2_fastRemove_1 10 rfl rfl)
theorem dJ2_fastRemove_35 : decode cJ2_fastRemove 35 = .ok (.aload_n 0, 1) := dk_42 (dk_at dksJ2_fastRemove_1 11 rfl rfl)
theorem dJ2_fastRemove_36 : decode cJ2_fastRemove 36 = .ok (.iload_n 3, 1) := dk_29 (dk_at dksJ2_fastRemove_1 12 rfl rfl)
theorem dJ2_fastRemove_37 : decode cJ2_fastRemove 37 = .ok (.dup_x1, 1) := dk_90 (dk_at dksJ2_fastRemove_1 13 rfl rfl)
theorem dJ2_fastRemove_38 : decode cJ2_fastRemove 38 = .ok (.putfield 48, 3) := dk_181 0 48 (dk_at dksJ2_fastRemove_1 14 rfl rfl)
theorem dJ2_fastRemove_41 : decode cJ2_fastRemove 41 = .ok (.aconst_null, 1) := dk_1 (dk_at dksJ2_fastRemove_1 17 rfl rfl)
theorem dJ2_fastRemove_42 : decode cJ2_fastRemove 42 = .ok (.aastore, 1) := dk_83 (dk_at dksJ2_fastRemove_1 18 rfl rfl)
theorem dJ2_fastRemove_43 : decode cJ2_fastRemove 43 = .ok (.return_, 1) := dk_177 (dk_at dksJ2_fastRemove_1 19 rfl rfl)
theorem q99 : (Jvm.Cond.initialized "java/util/ArrayList") ∈ lw_all := lw_g (lw_at lw_m1 4 rfl) rfl
theorem q146 : (Jvm.Cond.instantiable "java/util/ArrayList" (3 : Nat)) ∈ lw_all := lw_g (lw_at lw_m1 51 rfl) rfl
theorem q148 : (Jvm.Cond.instanceMethod ({ cls := "java/util/ArrayList", name := "<init>", desc := "()V" } : Jvm.MethodName)) ∈ lw_all := lw_g (lw_at lw_m1 53 rfl) rfl
theorem q149 : (Jvm.Cond.code ({ cls := "java/util/ArrayList", name := "<init>", desc := "()V" } : Jvm.MethodName) prog_46_method_2_code (1 : Nat) (Option.none : Option Jvm.ClassFile.FieldType)) ∈ lw_all := lw_g (lw_at lw_m1 54 rfl) rfl
theorem q150 : (Jvm.Cond.methodLink "java/util/ArrayList" (1 : Nat) ({ cls := "java/util/AbstractList", name := "<init>", desc := "()V" } : Jvm.MethodName)) ∈ lw_all := lw_g (lw_at lw_m1 55 rfl) rfl
theorem q157 : (Jvm.Cond.fieldLink "java/util/ArrayList" (39 : Nat) "java/util/ArrayList" "DEFAULTCAPACITY_EMPTY_ELEMENTDATA" "[Ljava/lang/Object;") ∈ lw_all := lw_g (lw_at lw_m1 62 rfl) rfl
theorem q158 : (Jvm.Cond.laysStatic "java/util/ArrayList" "DEFAULTCAPACITY_EMPTY_ELEMENTDATA" "[Ljava/lang/Object;") ∈ lw_tbl := lw_at lw_m1 63 rfl
theorem q159 : (Jvm.Cond.fieldLink "java/util/ArrayList" (9 : Nat) "java/util/ArrayList" "elementData" "[Ljava/lang/Object;") ∈ lw_all := lw_g (lw_at lw_m1 64 rfl) rfl
theorem q160 : (Jvm.Cond.fieldLink "java/util/ArrayList" (48 : Nat) "java/util/ArrayList" "size" "I") ∈ lw_all := lw_g (lw_at lw_m1 65 rfl) rfl
theorem q162 : (Jvm.Cond.fieldLink "java/util/ArrayList" (63 : Nat) "java/util/ArrayList" "modCount" "I") ∈ lw_all := lw_g (lw_at lw_m1 67 rfl) rfl
theorem q163 : (Jvm.Cond.sameField "java/util/ArrayList" "java/util/AbstractList" "modCount" "I") ∈ lw_all := lw_g (lw_at lw_m1 68 rfl) rfl
theorem q164 : (Jvm.Cond.lays "java/util/ArrayList" "java/util/ArrayList" "elementData" "[Ljava/lang/Object;") ∈ lw_all := lw_g (lw_at lw_m1 69 rfl) rfl
theorem q165 : (Jvm.Cond.soleField "java/util/ArrayList" "elementData") ∈ lw_all := lw_g (lw_at lw_m1 70 rfl) rfl
theorem q166 : (Jvm.Cond.lays "java/util/ArrayList" "java/util/ArrayList" "size" "I") ∈ lw_all := lw_g (lw_at lw_m1 71 rfl) rfl
theorem q167 : (Jvm.Cond.soleField "java/util/ArrayList" "size") ∈ lw_all := lw_g (lw_at lw_m1 72 rfl) rfl
theorem q168 : (Jvm.Cond.lays "java/util/ArrayList" "java/util/AbstractList" "modCount" "I") ∈ lw_all := lw_g (lw_at lw_m1 73 rfl) rfl
theorem q170 : (Jvm.Cond.superclass "java/util/ArrayList" "java/util/AbstractList") ∈ lw_all := lw_g (lw_at lw_m1 75 rfl) rfl
theorem q329 : (Jvm.Cond.instanceMethod ({ cls := "java/util/ArrayList", name := "add", desc := "(Ljava/lang/Object;)Z" } : Jvm.MethodName)) ∈ lw_all := lw_g (lw_at lw_m1 234 rfl) rfl
theorem q330 : (Jvm.Cond.selects "java/util/ArrayList" ({ cls := "java/util/ArrayList", name := "add", desc := "(Ljava/lang/Object;)Z" } : Jvm.MethodName) ({ cls := "java/util/ArrayList", name := "add", desc := "(Ljava/lang/Object;)Z" } : Jvm.MethodName)) ∈ lw_all := lw_g (lw_at lw_m1 235 rfl) rfl
theorem q331 : (Jvm.Cond.code ({ cls := "java/util/ArrayList", name := "add", desc := "(Ljava/lang/Object;)Z" } : Jvm.MethodName) prog_46_method_25_code (2 : Nat) (Option.some Jvm.ClassFile.FieldType.boolean)) ∈ lw_all := lw_g (lw_at lw_m1 236 rfl) rfl
theorem q332 : (Jvm.Cond.methodLink "java/util/ArrayList" (131 : Nat) ({ cls := "java/util/ArrayList", name := "add", desc := "(Ljava/lang/Object;[Ljava/lang/Object;I)V" } : Jvm.MethodName)) ∈ lw_all := lw_g (lw_at lw_m1 237 rfl) rfl
theorem q333 : (Jvm.Cond.privateMethod ({ cls := "java/util/ArrayList", name := "add", desc := "(Ljava/lang/Object;[Ljava/lang/Object;I)V" } : Jvm.MethodName)) ∈ lw_tbl := lw_at lw_m1 238 rfl
theorem q334 : (Jvm.Cond.instanceMethod ({ cls := "java/util/ArrayList", name := "add", desc := "(Ljava/lang/Object;[Ljava/lang/Object;I)V" } : Jvm.MethodName)) ∈ lw_all := lw_g (lw_at lw_m1 239 rfl) rfl
theorem q335 : (Jvm.Cond.code ({ cls := "java/util/ArrayList", name := "add", desc := "(Ljava/lang/Object;[Ljava/lang/Object;I)V" } : Jvm.MethodName) prog_46_method_24_code (4 : Nat) (Option.none : Option Jvm.ClassFile.FieldType)) ∈ lw_all := lw_g (lw_at lw_m2 0 rfl) rfl
theorem q336 : (Jvm.Cond.methodLink "java/util/ArrayList" (129 : Nat) ({ cls := "java/util/ArrayList", name := "grow", desc := "()[Ljava/lang/Object;" } : Jvm.MethodName)) ∈ lw_all := lw_g (lw_at lw_m2 1 rfl) rfl
theorem q337 : (Jvm.Cond.privateMethod ({ cls := "java/util/ArrayList", name := "grow", desc := "()[Ljava/lang/Object;" } : Jvm.MethodName)) ∈ lw_tbl := lw_at lw_m2 2 rfl
theorem q338 : (Jvm.Cond.instanceMethod ({ cls := "java/util/ArrayList", name := "grow", desc := "()[Ljava/lang/Object;" } : Jvm.MethodName)) ∈ lw_all := lw_g (lw_at lw_m2 3 rfl) rfl
theorem q339 : (Jvm.Cond.code ({ cls := "java/util/ArrayList", name := "grow", desc := "()[Ljava/lang/Object;" } : Jvm.MethodName) prog_46_method_7_code (1 : Nat) (Option.some (Jvm.ClassFile.FieldType.array (Jvm.ClassFile.FieldType.object "java/lang/Object")))) ∈ lw_all := lw_g (lw_at lw_m2 4 rfl) rfl
theorem q340 : (Jvm.Cond.methodLink "java/util/ArrayList" (69 : Nat) ({ cls := "java/util/ArrayList", name := "grow", desc := "(I)[Ljava/lang/Object;" } : Jvm.MethodName)) ∈ lw_all := lw_g (lw_at lw_m2 5 rfl) rfl
theorem q341 : (Jvm.Cond.privateMethod ({ cls := "java/util/ArrayList", name := "grow", desc := "(I)[Ljava/lang/Object;" } : Jvm.MethodName)) ∈ lw_tbl := lw_at lw_m2 6 rfl
theorem q342 : (Jvm.Cond.instanceMethod ({ cls := "java/util/ArrayList", name := "grow", desc := "(I)[Ljava/lang/Object;" } : Jvm.MethodName)) ∈ lw_all := lw_g (lw_at lw_m2 7 rfl) rfl
theorem q343 : (Jvm.Cond.code ({ cls := "java/util/ArrayList", name := "grow", desc := "(I)[Ljava/lang/Object;" } : Jvm.MethodName) prog_46_method_6_code (4 : Nat) (Option.some (Jvm.ClassFile.FieldType.array (Jvm.ClassFile.FieldType.object "java/lang/Object")))) ∈ lw_all := lw_g (lw_at lw_m2 8 rfl) rfl
theorem q344 : (Jvm.Cond.methodLink "java/util/ArrayList" (73 : Nat) ({ cls := "jdk/internal/util/ArraysSupport", name := "newLength", desc := "(III)I" } : Jvm.MethodName)) ∈ lw_all := lw_g (lw_at lw_m2 9 rfl) rfl
theorem q354 : (Jvm.Cond.methodLink "java/util/ArrayList" (66 : Nat) ({ cls := "java/util/Arrays", name := "copyOf", desc := "([Ljava/lang/Object;I)[Ljava/lang/Object;" } : Jvm.MethodName)) ∈ lw_all := lw_g (lw_at lw_m2 19 rfl) rfl
theorem q385 : (Jvm.Cond.selects "java/util/ArrayList" ({ cls := "java/lang/Object", name := "getClass", desc := "()Ljava/lang/Class;" } : Jvm.MethodName) ({ cls := "java/lang/Object", name := "getClass", desc := "()Ljava/lang/Class;" } : Jvm.MethodName)) ∈ lw_all := lw_g (lw_at lw_m2 50 rfl) rfl
theorem q399 : (Jvm.Cond.methodLink "java/util/ArrayList" (79 : Nat) ({ cls := "java/lang/Math", name := "max", desc := "(II)I" } : Jvm.MethodName)) ∈ lw_all := lw_g (lw_at lw_m2 64 rfl) rfl
theorem q400 : (Jvm.Cond.classLink "java/util/ArrayList" (7 : Nat) "java/lang/Object") ∈ lw_all := lw_g (lw_at lw_m2 65 rfl) rfl
theorem q604 : (Jvm.Cond.instanceMethod ({ cls := "java/util/ArrayList", name := "get", desc := "(I)Ljava/lang/Object;" } : Jvm.MethodName)) ∈ lw_all := lw_g (lw_at lw_m3 29 rfl) rfl
theorem q605 : (Jvm.Cond.selects "java/util/ArrayList" ({ cls := "java/util/ArrayList", name := "get", desc := "(I)Ljava/lang/Object;" } : Jvm.MethodName) ({ cls := "java/util/ArrayList", name := "get", desc := "(I)Ljava/lang/Object;" } : Jvm.MethodName)) ∈ lw_all := lw_g (lw_at lw_m3 30 rfl) rfl
theorem q606 : (Jvm.Cond.code ({ cls := "java/util/ArrayList", name := "get", desc := "(I)Ljava/lang/Object;" } : Jvm.MethodName) prog_46_method_20_code (2 : Nat) (Option.some (Jvm.ClassFile.FieldType.object "java/lang/Object"))) ∈ lw_all := lw_g (lw_at lw_m3 31 rfl) rfl
theorem q607 : (Jvm.Cond.methodLink "java/util/ArrayList" (118 : Nat) ({ cls := "java/util/Objects", name := "checkIndex", desc := "(II)I" } : Jvm.MethodName)) ∈ lw_all := lw_g (lw_at lw_m3 32 rfl) rfl
theorem q613 : (Jvm.Cond.methodLink "java/util/ArrayList" (123 : Nat) ({ cls := "java/util/ArrayList", name := "elementData", desc := "(I)Ljava/lang/Object;" } : Jvm.MethodName)) ∈ lw_all := lw_g (lw_at lw_m3 38 rfl) rfl
theorem q614 : (Jvm.Cond.instanceMethod ({ cls := "java/util/ArrayList", name := "elementData", desc := "(I)Ljava/lang/Object;" } : Jvm.MethodName)) ∈ lw_all := lw_g (lw_at lw_m3 39 rfl) rfl
theorem q615 : (Jvm.Cond.selects "java/util/ArrayList" ({ cls := "java/util/ArrayList", name := "elementData", desc := "(I)Ljava/lang/Object;" } : Jvm.MethodName) ({ cls := "java/util/ArrayList", name := "elementData", desc := "(I)Ljava/lang/Object;" } : Jvm.MethodName)) ∈ lw_all := lw_g (lw_at lw_m3 40 rfl) rfl
theorem q616 : (Jvm.Cond.code ({ cls := "java/util/ArrayList", name := "elementData", desc := "(I)Ljava/lang/Object;" } : Jvm.MethodName) prog_46_method_18_code (2 : Nat) (Option.some (Jvm.ClassFile.FieldType.object "java/lang/Object"))) ∈ lw_all := lw_g (lw_at lw_m3 41 rfl) rfl
theorem q618 : (Jvm.Cond.instanceMethod ({ cls := "java/util/ArrayList", name := "size", desc := "()I" } : Jvm.MethodName)) ∈ lw_all := lw_g (lw_at lw_m3 43 rfl) rfl
theorem q619 : (Jvm.Cond.selects "java/util/ArrayList" ({ cls := "java/util/ArrayList", name := "size", desc := "()I" } : Jvm.MethodName) ({ cls := "java/util/ArrayList", name := "size", desc := "()I" } : Jvm.MethodName)) ∈ lw_all := lw_g (lw_at lw_m3 44 rfl) rfl
theorem q620 : (Jvm.Cond.code ({ cls := "java/util/ArrayList", name := "size", desc := "()I" } : Jvm.MethodName) prog_46_method_8_code (1 : Nat) (Option.some Jvm.ClassFile.FieldType.int)) ∈ lw_all := lw_g (lw_at lw_m3 45 rfl) rfl
theorem q956 : (Jvm.Cond.instanceMethod ({ cls := "java/util/ArrayList", name := "clear", desc := "()V" } : Jvm.MethodName)) ∈ lw_all := lw_g (lw_at lw_m4 141 rfl) rfl
theorem q957 : (Jvm.Cond.selects "java/util/ArrayList" ({ cls := "java/util/ArrayList", name := "clear", desc := "()V" } : Jvm.MethodName) ({ cls := "java/util/ArrayList", name := "clear", desc := "()V" } : Jvm.MethodName)) ∈ lw_all := lw_g (lw_at lw_m4 142 rfl) rfl
theorem q958 : (Jvm.Cond.code ({ cls := "java/util/ArrayList", name := "clear", desc := "()V" } : Jvm.MethodName) prog_46_method_40_code (4 : Nat) (Option.none : Option Jvm.ClassFile.FieldType)) ∈ lw_all := lw_g (lw_at lw_m4 143 rfl) rfl
theorem q1097 : (Jvm.Cond.instanceMethod ({ cls := "java/util/ArrayList", name := "set", desc := "(ILjava/lang/Object;)Ljava/lang/Object;" } : Jvm.MethodName)) ∈ lw_all := lw_g (lw_at lw_m5 42 rfl) rfl
theorem q1098 : (Jvm.Cond.selects "java/util/ArrayList" ({ cls := "java/util/ArrayList", name := "set", desc := "(ILjava/lang/Object;)Ljava/lang/Object;" } : Jvm.MethodName) ({ cls := "java/util/ArrayList", name := "set", desc := "(ILjava/lang/Object;)Ljava/lang/Object;" } : Jvm.MethodName)) ∈ lw_all := lw_g (lw_at lw_m5 43 rfl) rfl
theorem q1099 : (Jvm.Cond.code ({ cls := "java/util/ArrayList", name := "set", desc := "(ILjava/lang/Object;)Ljava/lang/Object;" } : Jvm.MethodName) prog_46_method_23_code (4 : Nat) (Option.some (Jvm.ClassFile.FieldType.object "java/lang/Object"))) ∈ lw_all := lw_g (lw_at lw_m5 44 rfl) rfl
theorem q1101 : (Jvm.Cond.instanceMethod ({ cls := "java/util/ArrayList", name := "add", desc := "(ILjava/lang/Object;)V" } : Jvm.MethodName)) ∈ lw_all := lw_g (lw_at lw_m5 46 rfl) rfl
theorem q1102 : (Jvm.Cond.selects "java/util/ArrayList" ({ cls := "java/util/ArrayList", name := "add", desc := "(ILjava/lang/Object;)V" } : Jvm.MethodName) ({ cls := "java/util/ArrayList", name := "add", desc := "(ILjava/lang/Object;)V" } : Jvm.MethodName)) ∈ lw_all := lw_g (lw_at lw_m5 47 rfl) rfl
theorem q1103 : (Jvm.Cond.code ({ cls := "java/util/ArrayList", name := "add", desc := "(ILjava/lang/Object;)V" } : Jvm.MethodName) prog_46_method_26_code (5 : Nat) (Option.none : Option Jvm.ClassFile.FieldType)) ∈ lw_all := lw_g (lw_at lw_m5 48 rfl) rfl
theorem q1104 : (Jvm.Cond.methodLink "java/util/ArrayList" (135 : Nat) ({ cls := "java/util/ArrayList", name := "rangeCheckForAdd", desc := "(I)V" } : Jvm.MethodName)) ∈ lw_all := lw_g (lw_at lw_m5 49 rfl) rfl
theorem q1105 : (Jvm.Cond.privateMethod ({ cls := "java/util/ArrayList", name := "rangeCheckForAdd", desc := "(I)V" } : Jvm.MethodName)) ∈ lw_tbl := lw_at lw_m5 50 rfl
theorem q1106 : (Jvm.Cond.instanceMethod ({ cls := "java/util/ArrayList", name := "rangeCheckForAdd", desc := "(I)V" } : Jvm.MethodName)) ∈ lw_all := lw_g (lw_at lw_m5 51 rfl) rfl
theorem q1107 : (Jvm.Cond.code ({ cls := "java/util/ArrayList", name := "rangeCheckForAdd", desc := "(I)V" } : Jvm.MethodName) prog_46_method_45_code (2 : Nat) (Option.none : Option Jvm.ClassFile.FieldType)) ∈ lw_all := lw_g (lw_at lw_m5 52 rfl) rfl
theorem q1108 : (Jvm.Cond.classLink "java/util/ArrayList" (187 : Nat) "java/lang/IndexOutOfBoundsException") ∈ lw_all := lw_g (lw_at lw_m5 53 rfl) rfl
theorem q1109 : (Jvm.Cond.methodLink "java/util/ArrayList" (198 : Nat) ({ cls := "java/util/ArrayList", name := "outOfBoundsMsg", desc := "(I)Ljava/lang/String;" } : Jvm.MethodName)) ∈ lw_all := lw_g (lw_at lw_m5 54 rfl) rfl
theorem q1110 : (Jvm.Cond.privateMethod ({ cls := "java/util/ArrayList", name := "outOfBoundsMsg", desc := "(I)Ljava/lang/String;" } : Jvm.MethodName)) ∈ lw_tbl := lw_at lw_m5 55 rfl
theorem q1111 : (Jvm.Cond.instanceMethod ({ cls := "java/util/ArrayList", name := "outOfBoundsMsg", desc := "(I)Ljava/lang/String;" } : Jvm.MethodName)) ∈ lw_all := lw_g (lw_at lw_m5 56 rfl) rfl
theorem q1112 : (Jvm.Cond.code ({ cls := "java/util/ArrayList", name := "outOfBoundsMsg", desc := "(I)Ljava/lang/String;" } : Jvm.MethodName) prog_46_method_46_code (2 : Nat) (Option.some (Jvm.ClassFile.FieldType.object "java/lang/String"))) ∈ lw_all := lw_g (lw_at lw_m5 57 rfl) rfl
theorem q1113 : (Jvm.Cond.classLink "java/util/ArrayList" (20 : Nat) "java/lang/StringBuilder") ∈ lw_all := lw_g (lw_at lw_m5 58 rfl) rfl
theorem q1115 : (Jvm.Cond.methodLink "java/util/ArrayList" (22 : Nat) ({ cls := "java/lang/StringBuilder", name := "<init>", desc := "()V" } : Jvm.MethodName)) ∈ lw_all := lw_g (lw_at lw_m5 60 rfl) rfl
theorem q1144 : (Jvm.Cond.stringRef "java/util/ArrayList" (201 : Nat) "Index: ") ∈ lw_tbl := lw_at lw_m5 89 rfl
theorem q1145 : (Jvm.Cond.methodLink "java/util/ArrayList" (25 : Nat) ({ cls := "java/lang/StringBuilder", name := "append", desc := "(Ljava/lang/String;)Ljava/lang/StringBuilder;" } : Jvm.MethodName)) ∈ lw_all := lw_g (lw_at lw_m5 90 rfl) rfl
theorem q1248 : (Jvm.Cond.methodLink "java/util/ArrayList" (29 : Nat) ({ cls := "java/lang/StringBuilder", name := "append", desc := "(I)Ljava/lang/StringBuilder;" } : Jvm.MethodName)) ∈ lw_all := lw_g (lw_at lw_m5 193 rfl) rfl
theorem q1273 : (Jvm.Cond.stringRef "java/util/ArrayList" (203 : Nat) ", Size: ") ∈ lw_tbl := lw_at lw_m5 218 rfl
theorem q1274 : (Jvm.Cond.methodLink "java/util/ArrayList" (32 : Nat) ({ cls := "java/lang/StringBuilder", name := "toString", desc := "()Ljava/lang/String;" } : Jvm.MethodName)) ∈ lw_all := lw_g (lw_at lw_m5 219 rfl) rfl
theorem q1340 : (Jvm.Cond.methodLink "java/util/ArrayList" (193 : Nat) ({ cls := "java/lang/IndexOutOfBoundsException", name := "<init>", desc := "(Ljava/lang/String;)V" } : Jvm.MethodName)) ∈ lw_all := lw_g (lw_at lw_m6 45 rfl) rfl
theorem q1341 : (Jvm.Cond.methodLink "java/util/ArrayList" (112 : Nat) ({ cls := "java/lang/System", name := "arraycopy", desc := "(Ljava/lang/Object;ILjava/lang/Object;II)V" } : Jvm.MethodName)) ∈ lw_all := lw_g (lw_at lw_m6 46 rfl) rfl
theorem q1350 : (Jvm.Cond.instanceMethod ({ cls := "java/util/ArrayList", name := "remove", desc := "(I)Ljava/lang/Object;" } : Jvm.MethodName)) ∈ lw_all := lw_g (lw_at lw_m6 55 rfl) rfl
theorem q1351 : (Jvm.Cond.selects "java/util/ArrayList" ({ cls := "java/util/ArrayList", name := "remove", desc := "(I)Ljava/lang/Object;" } : Jvm.MethodName) ({ cls := "java/util/ArrayList", name := "remove", desc := "(I)Ljava/lang/Object;" } : Jvm.MethodName)) ∈ lw_all := lw_g (lw_at lw_m6 56 rfl) rfl
theorem q1352 : (Jvm.Cond.code ({ cls := "java/util/ArrayList", name := "remove", desc := "(I)Ljava/lang/Object;" } : Jvm.MethodName) prog_46_method_29_code (4 : Nat) (Option.some (Jvm.ClassFile.FieldType.object "java/lang/Object"))) ∈ lw_all := lw_g (lw_at lw_m6 57 rfl) rfl
theorem q1353 : (Jvm.Cond.methodLink "java/util/ArrayList" (144 : Nat) ({ cls := "java/util/ArrayList", name := "fastRemove", desc := "([Ljava/lang/Object;I)V" } : Jvm.MethodName)) ∈ lw_all := lw_g (lw_at lw_m6 58 rfl) rfl
theorem q1354 : (Jvm.Cond.privateMethod ({ cls := "java/util/ArrayList", name := "fastRemove", desc := "([Ljava/lang/Object;I)V" } : Jvm.MethodName)) ∈ lw_tbl := lw_at lw_m6 59 rfl
theorem q1355 : (Jvm.Cond.instanceMethod ({ cls := "java/util/ArrayList", name := "fastRemove", desc := "([Ljava/lang/Object;I)V" } : Jvm.MethodName)) ∈ lw_all := lw_g (lw_at lw_m6 60 rfl) rfl
theorem q1356 : (Jvm.Cond.code ({ cls := "java/util/ArrayList", name := "fastRemove", desc := "([Ljava/lang/Object;I)V" } : Jvm.MethodName) prog_46_method_39_code (4 : Nat) (Option.none : Option Jvm.ClassFile.FieldType)) ∈ lw_all := lw_g (lw_at lw_m6 61 rfl) rfl
theorem q2303 : (Jvm.Cond.castable "java/util/ArrayList" "java/lang/Object") ∈ lw_tbl := lw_at lw_m10 48 rfl
theorem in_J2 : ∀ w ∈ wsJ20, w ∈ lw_all := lw_in wsJ20 [168, 164, 166] (by decide +kernel) (by decide +kernel)

/-! jdk/internal/util/ArraysSupport -/
set_option maxRecDepth 100000
def RJ3 : String := "jdk/internal/util/ArraysSupport"
abbrev cJ3_newLength : ByteArray := prog_53_method_27_code
def yJ3_newLength : MethodName := ⟨RJ3, "newLength", "(III)I"⟩
def dkwJ3_newLength_1 : List UInt8 := [184, 0, 201, 172]
abbrev dktJ3_newLength_1 : List UInt8 := dkwJ3_newLength_1 ++ []
def dkwJ3_newLength_0 : List UInt8 := [26, 27, 28, 184, 0, 194, 96, 62, 3, 29, 162, 0, 11, 29, 18, 200, 163, 0, 5, 29, 172, 26, 27]
abbrev dktJ3_newLength_0 : List UInt8 := dkwJ3_newLength_0 ++ dktJ3_newLength_1
theorem dksJ3_newLength_0 : cJ3_newLength.data.toList.drop 0 = dktJ3_newLength_0 := by decide +kernel
theorem dksJ3_newLength_1 : cJ3_newLength.data.toList.drop 23 = dktJ3_newLength_1 := dk_seg dksJ3_newLength_0 23 rfl rfl
theorem dJ3_newLength_0 : decode cJ3_newLength 0 = .ok (.iload_n 0, 1) := dk_26 (dk_at dksJ3_newLength_0 0 rfl rfl)
theorem dJ3_newLength_1 : decode cJ3_newLength 1 = .ok (.iload_n 1, 1) := dk_27 (dk_at dksJ3_newLength_0 1 rfl rfl)
theorem dJ3_newLength_2 : decode cJ3_newLength 2 = .ok (.iload_n 2, 1) := dk_28 (dk_at dksJ3_newLength_0 2 rfl rfl)
theorem dJ3_newLength_3 : decode cJ3_newLength 3 = .ok (.invokestatic 194, 3) := dk_184 0 194 (dk_at dksJ3_newLength_0 3 rfl rfl)
theorem dJ3_newLength_6 : decode cJ3_newLength 6 = .ok (.iadd, 1) := dk_96 (dk_at dksJ3_newLength_0 6 rfl rfl)
theorem dJ3_newLength_7 : decode cJ3_newLength 7 = .ok (.istore_n 3, 1) := dk_62 (dk_at dksJ3_newLength_0 7 rfl rfl)
theorem dJ3_newLength_8 : decode cJ3_newLength 8 = .ok (.iconst 0, 1) := dk_3 (dk_at dksJ3_newLength_0 8 rfl rfl)
theorem dJ3_newLength_9 : decode cJ3_newLength 9 = .ok (.iload_n 3, 1) := dk_29 (dk_at dksJ3_newLength_0 9 rfl rfl)
theorem dJ3_newLength_10 : decode cJ3_newLength 10 = .ok (.if_icmp .ge 11, 3) := dk_162 0 11 (dk_at dksJ3_newLength_0 10 rfl rfl)
theorem dJ3_newLength_13 : decode cJ3_newLength 13 = .ok (.iload_n 3, 1) := dk_29 (dk_at dksJ3_newLength_0 13 rfl rfl)
theorem dJ3_newLength_14 : decode cJ3_newLength 14 = .ok (.ldc 200, 2) := dk_18 200 (dk_at dksJ3_newLength_0 14 rfl rfl)
theorem dJ3_newLength_16 : decode cJ3_newLength 16 = .ok (.if_icmp .gt 5, 3) := dk_163 0 5 (dk_at dksJ3_newLength_0 16 rfl rfl)
theorem dJ3_newLength_19 : decode cJ3_newLength 19 = .ok (.iload_n 3, 1) := dk_29 (dk_at dksJ3_newLength_0 19 rfl rfl)
theorem dJ3_newLength_20 : decode cJ3_newLength 20 = .ok (.ireturn, 1) := dk_172 (dk_at dksJ3_newLength_0 20 rfl rfl)
theorem dJ3_newLength_21 : decode cJ3_newLength 21 = .ok (.iload_n 0, 1) := dk_26 (dk_at dksJ3_newLength_0 21 rfl rfl)
theorem dJ3_newLength_22 : decode cJ3_newLength 22 = .ok (.iload_n 1, 1) := dk_27 (dk_at dksJ3_newLength_0 22 rfl rfl)
theorem dJ3_newLength_23 : decode cJ3_newLength 23 = .ok (.invokestatic 201, 3) := dk_184 0 201 (dk_at dksJ3_newLength_1 0 rfl rfl)
theorem dJ3_newLength_26 : decode cJ3_newLength 26 = .ok (.ireturn, 1) := dk_172 (dk_at dksJ3_newLength_1 3 rfl rfl)
abbrev cJ3_hugeLength : ByteArray := prog_53_method_28_code
def yJ3_hugeLength : MethodName := ⟨RJ3, "hugeLength", "(II)I"⟩
def dkwJ3_hugeLength_2 : List UInt8 := [191, 28, 18, 200, 163, 0, 6, 18, 200, 172, 28, 172]
abbrev dktJ3_hugeLength_2 : List UInt8 := dkwJ3_hugeLength_2 ++ []
def dkwJ3_hugeLength_1 : List UInt8 := [26, 182, 0, 98, 18, 208, 182, 0, 94, 27, 182, 0, 98, 18, 210, 182, 0, 94, 182, 0, 101, 183, 0, 212]
abbrev dktJ3_hugeLength_1 : List UInt8 := dkwJ3_hugeLength_1 ++ dktJ3_hugeLength_2
def dkwJ3_hugeLength_0 : List UInt8 := [26, 27, 96, 61, 28, 156, 0, 44, 187, 0, 204, 89, 187, 0, 89, 89, 183, 0, 91, 18, 206, 182, 0, 94]
abbrev dktJ3_hugeLength_0 : List UInt8 := dkwJ3_hugeLength_0 ++ dktJ3_hugeLength_1
theorem dksJ3_hugeLength_0 : cJ3_hugeLength.data.toList.drop 0 = dktJ3_hugeLength_0 := by decide +kernel
theorem dksJ3_hugeLength_1 : cJ3_hugeLength.data.toList.drop 24 = dktJ3_hugeLength_1 := dk_seg dksJ3_hugeLength_0 24 rfl rfl
theorem dksJ3_hugeLength_2 : cJ3_hugeLength.data.toList.drop 48 = dktJ3_hugeLength_2 := dk_seg dksJ3_hugeLength_1 24 rfl rfl
theorem dJ3_hugeLength_0 : decode cJ3_hugeLength 0 = .ok (.iload_n 0, 1) := dk_26 (dk_at dksJ3_hugeLength_0 0 rfl rfl)
theorem dJ3_hugeLength_1 : decode cJ3_hugeLength 1 = .ok (.iload_n 1, 1) := dk_27 (dk_at dksJ3_hugeLength_0 1 rfl rfl)
theorem dJ3_hugeLength_2 : decode cJ3_hugeLength 2 = .ok (.iadd, 1) := dk_96 (dk_at dksJ3_hugeLength_0 2 rfl rfl)
theorem dJ3_hugeLength_3 : decode cJ3_hugeLength 3 = .ok (.istore_n 2, 1) := dk_61 (dk_at dksJ3_hugeLength_0 3 rfl rfl)
theorem dJ3_hugeLength_4 : decode cJ3_hugeLength 4 = .ok (.iload_n 2, 1) := dk_28 (dk_at dksJ3_hugeLength_0 4 rfl rfl)
theorem dJ3_hugeLength_5 : decode cJ3_hugeLength 5 = .ok (.ifCond .ge 44, 3) := dk_156 0 44 (dk_at dksJ3_hugeLength_0 5 rfl rfl)
theorem dJ3_hugeLength_8 : decode cJ3_hugeLength 8 = .ok (.new 204, 3) := dk_187 0 204 (dk_at dksJ3_hugeLength_0 8 rfl rfl)
theorem dJ3_hugeLength_11 : decode cJ3_hugeLength 11 = .ok (.dup, 1) := dk_89 (dk_at dksJ3_hugeLength_0 11 rfl rfl)
theorem dJ3_hugeLength_12 : decode cJ3_hugeLength 12 = .ok (.new 89, 3) := dk_187 0 89 (dk_at dksJ3_hugeLength_0 12 rfl rfl)
theorem dJ3_hugeLength_15 : decode cJ3_hugeLength 15 = .ok (.dup, 1) := dk_89 (dk_at dksJ3_hugeLength_0 15 rfl rfl)
theorem dJ3_hugeLength_16 : decode cJ3_hugeLength 16 = .ok (.invokespecial 91, 3) := dk_183 0 91 (dk_at dksJ3_hugeLength_0 16 rfl rfl)
theorem dJ3_hugeLength_19 : decode cJ3_hugeLength 19 = .ok (.ldc 206, 2) := dk_18 206 (dk_at dksJ3_hugeLength_0 19 rfl rfl)
theorem dJ3_hugeLength_21 : decode cJ3_hugeLength 21 = .ok (.invokevirtual 94, 3) := dk_182 0 94 (dk_at dksJ3_hugeLength_0 21 rfl rfl)
theorem dJ3_hugeLength_24 : decode cJ3_hugeLength 24 = .ok (.iload_n 0, 1) := dk_26 (dk_at dksJ3_hugeLength_1 0 rfl rfl)
theorem dJ3_hugeLength_25 : decode cJ3_hugeLength 25 = .ok (.invokevirtual 98, 3) := dk_182 0 98 (dk_at dksJ3_hugeLength_1 1 rfl rfl)
theorem dJ3_hugeLength_28 : decode cJ3_hugeLength 28 = .ok (.ldc 208, 2) := dk_18 208 (dk_at dksJ3_hugeLength_1 4 rfl rfl)
theorem dJ3_hugeLength_30 : decode cJ3_hugeLength 30 = .ok (.invokevirtual 94, 3) := dk_182 0 94 (dk_at dksJ3_hugeLength_1 6 rfl rfl)
theorem dJ3_hugeLength_33 : decode cJ3_hugeLength 33 = .ok (.iload_n 1, 1) := dk_27 (dk_at dksJ3_hugeLength_1 9 rfl rfl)
theorem dJ3_hugeLength_34 : decode cJ3_hugeLength 34 = .ok (.invokevirtual 98, 3) := dk_182 0 98 (dk_at dksJ3_hugeLength_1 10 rfl rfl)
theorem dJ3_hugeLength_37 : decode cJ3_hugeLength 37 = .ok (.ldc 210, 2) := dk_18 210 (dk_at dksJ3_hugeLength_1 13 rfl rfl)
theorem dJ3_hugeLength_39 : decode cJ3_hugeLength 39 = .ok (.invokevirtual 94, 3) := dk_182 0 94 (dk_at dksJ3_hugeLength_1 15 rfl rfl)
theorem dJ3_hugeLength_42 : decode cJ3_hugeLength 42 = .ok (.invokevirtual 101, 3) := dk_182 0 101 (dk_at dksJ3_hugeLength_1 18 rfl rfl)
theorem dJ3_hugeLength_45 : decode cJ3_hugeLength 45 = .ok (.invokespecial 212, 3) := dk_183 0 212 (dk_at dksJ3_hugeLength_1 21 rfl rfl)
theorem dJ3_hugeLength_48 : decode cJ3_hugeLength 48 = .ok (.athrow, 1) := dk_191 (dk_at dksJ3_hugeLength_2 0 rfl rfl)
theorem dJ3_hugeLength_49 : decode cJ3_hugeLength 49 = .ok (.iload_n 2, 1) := dk_28 (dk_at dksJ3_hugeLength_2 1 rfl rfl)
theorem dJ3_hugeLength_50 : decode cJ3_hugeLength 50 = .ok (.ldc 200, 2) := dk_18 200 (dk_at dksJ3_hugeLength_2 2 rfl rfl)
theorem dJ3_hugeLength_52 : decode cJ3_hugeLength 52 = .ok (.if_icmp .gt 6, 3) := dk_163 0 6 (dk_at dksJ3_hugeLength_2 4 rfl rfl)
theorem dJ3_hugeLength_55 : decode cJ3_hugeLength 55 = .ok (.ldc 200, 2) := dk_18 200 (dk_at dksJ3_hugeLength_2 7 rfl rfl)
theorem dJ3_hugeLength_57 : decode cJ3_hugeLength 57 = .ok (.ireturn, 1) := dk_172 (dk_at dksJ3_hugeLength_2 9 rfl rfl)
theorem dJ3_hugeLength_58 : decode cJ3_hugeLength 58 = .ok (.iload_n 2, 1) := dk_28 (dk_at dksJ3_hugeLength_2 10 rfl rfl)
theorem dJ3_hugeLength_59 : decode cJ3_hugeLength 59 = .ok (.ireturn, 1) := dk_172 (dk_at dksJ3_hugeLength_2 11 rfl rfl)
theorem q104 : (Jvm.Cond.initialized "jdk/internal/util/ArraysSupport") ∈ lw_all := lw_g (lw_at lw_m1 9 rfl) rfl
theorem q345 : (Jvm.Cond.static ({ cls := "jdk/internal/util/ArraysSupport", name := "newLength", desc := "(III)I" } : Jvm.MethodName)) ∈ lw_all := lw_g (lw_at lw_m2 10 rfl) rfl
theorem q346 : (Jvm.Cond.code ({ cls := "jdk/internal/util/ArraysSupport", name := "newLength", desc := "(III)I" } : Jvm.MethodName) prog_53_method_27_code (4 : Nat) (Option.some Jvm.ClassFile.FieldType.int)) ∈ lw_all := lw_g (lw_at lw_m2 11 rfl) rfl
theorem q347 : (Jvm.Cond.methodLink "jdk/internal/util/ArraysSupport" (194 : Nat) ({ cls := "java/lang/Math", name := "max", desc := "(II)I" } : Jvm.MethodName)) ∈ lw_all := lw_g (lw_at lw_m2 12 rfl) rfl
theorem q350 : (Jvm.Cond.constant "jdk/internal/util/ArraysSupport" (200 : Nat) (2147483639 : Int32)) ∈ lw_all := lw_g (lw_at lw_m2 15 rfl) rfl
theorem q351 : (Jvm.Cond.methodLink "jdk/internal/util/ArraysSupport" (201 : Nat) ({ cls := "jdk/internal/util/ArraysSupport", name := "hugeLength", desc := "(II)I" } : Jvm.MethodName)) ∈ lw_all := lw_g (lw_at lw_m2 16 rfl) rfl
theorem q352 : (Jvm.Cond.static ({ cls := "jdk/internal/util/ArraysSupport", name := "hugeLength", desc := "(II)I" } : Jvm.MethodName)) ∈ lw_all := lw_g (lw_at lw_m2 17 rfl) rfl
theorem q353 : (Jvm.Cond.code ({ cls := "jdk/internal/util/ArraysSupport", name := "hugeLength", desc := "(II)I" } : Jvm.MethodName) prog_53_method_28_code (3 : Nat) (Option.some Jvm.ClassFile.FieldType.int)) ∈ lw_all := lw_g (lw_at lw_m2 18 rfl) rfl

/-! java/lang/Math -/
set_option maxRecDepth 100000
def RJ4 : String := "java/lang/Math"
abbrev cJ4_max : ByteArray := prog_35_method_65_code
def yJ4_max : MethodName := ⟨RJ4, "max", "(II)I"⟩
def dkwJ4_max_0 : List UInt8 := [26, 27, 161, 0, 7, 26, 167, 0, 4, 27, 172]
abbrev dktJ4_max_0 : List UInt8 := dkwJ4_max_0 ++ []
theorem dksJ4_max_0 : cJ4_max.data.toList.drop 0 = dktJ4_max_0 := by decide +kernel
theorem dJ4_max_0 : decode cJ4_max 0 = .ok (.iload_n 0, 1) := dk_26 (dk_at dksJ4_max_0 0 rfl rfl)
theorem dJ4_max_1 : decode cJ4_max 1 = .ok (.iload_n 1, 1) := dk_27 (dk_at dksJ4_max_0 1 rfl rfl)
theorem dJ4_max_2 : decode cJ4_max 2 = .ok (.if_icmp .lt 7, 3) := dk_161 0 7 (dk_at dksJ4_max_0 2 rfl rfl)
theorem dJ4_max_5 : decode cJ4_max 5 = .ok (.iload_n 0, 1) := dk_26 (dk_at dksJ4_max_0 5 rfl rfl)
theorem dJ4_max_6 : decode cJ4_max 6 = .ok (.goto 4, 3) := dk_167 0 4 (dk_at dksJ4_max_0 6 rfl rfl)
theorem dJ4_max_9 : decode cJ4_max 9 = .ok (.iload_n 1, 1) := dk_27 (dk_at dksJ4_max_0 9 rfl rfl)
theorem dJ4_max_10 : decode cJ4_max 10 = .ok (.ireturn, 1) := dk_172 (dk_at dksJ4_max_0 10 rfl rfl)
abbrev cJ4_min : ByteArray := prog_35_method_69_code
def yJ4_min : MethodName := ⟨RJ4, "min", "(II)I"⟩
def dkwJ4_min_0 : List UInt8 := [26, 27, 163, 0, 7, 26, 167, 0, 4, 27, 172]
abbrev dktJ4_min_0 : List UInt8 := dkwJ4_min_0 ++ []
theorem dksJ4_min_0 : cJ4_min.data.toList.drop 0 = dktJ4_min_0 := by decide +kernel
theorem dJ4_min_0 : decode cJ4_min 0 = .ok (.iload_n 0, 1) := dk_26 (dk_at dksJ4_min_0 0 rfl rfl)
theorem dJ4_min_1 : decode cJ4_min 1 = .ok (.iload_n 1, 1) := dk_27 (dk_at dksJ4_min_0 1 rfl rfl)
theorem dJ4_min_2 : decode cJ4_min 2 = .ok (.if_icmp .gt 7, 3) := dk_163 0 7 (dk_at dksJ4_min_0 2 rfl rfl)
theorem dJ4_min_5 : decode cJ4_min 5 = .ok (.iload_n 0, 1) := dk_26 (dk_at dksJ4_min_0 5 rfl rfl)
theorem dJ4_min_6 : decode cJ4_min 6 = .ok (.goto 4, 3) := dk_167 0 4 (dk_at dksJ4_min_0 6 rfl rfl)
theorem dJ4_min_9 : decode cJ4_min 9 = .ok (.iload_n 1, 1) := dk_27 (dk_at dksJ4_min_0 9 rfl rfl)
theorem dJ4_min_10 : decode cJ4_min 10 = .ok (.ireturn, 1) := dk_172 (dk_at dksJ4_min_0 10 rfl rfl)
abbrev cJ4_floorMod : ByteArray := prog_35_method_50_code
def yJ4_floorMod : MethodName := ⟨RJ4, "floorMod", "(II)I"⟩
def dkwJ4_floorMod_0 : List UInt8 := [26, 27, 112, 61, 26, 27, 130, 156, 0, 11, 28, 153, 0, 7, 28, 27, 96, 172, 28, 172]
abbrev dktJ4_floorMod_0 : List UInt8 := dkwJ4_floorMod_0 ++ []
theorem dksJ4_floorMod_0 : cJ4_floorMod.data.toList.drop 0 = dktJ4_floorMod_0 := by decide +kernel
theorem dJ4_floorMod_0 : decode cJ4_floorMod 0 = .ok (.iload_n 0, 1) := dk_26 (dk_at dksJ4_floorMod_0 0 rfl rfl)
theorem dJ4_floorMod_1 : decode cJ4_floorMod 1 = .ok (.iload_n 1, 1) := dk_27 (dk_at dksJ4_floorMod_0 1 rfl rfl)
theorem dJ4_floorMod_2 : decode cJ4_floorMod 2 = .ok (.irem, 1) := dk_112 (dk_at dksJ4_floorMod_0 2 rfl rfl)
theorem dJ4_floorMod_3 : decode cJ4_floorMod 3 = .ok (.istore_n 2, 1) := dk_61 (dk_at dksJ4_floorMod_0 3 rfl rfl)
theorem dJ4_floorMod_4 : decode cJ4_floorMod 4 = .ok (.iload_n 0, 1) := dk_26 (dk_at dksJ4_floorMod_0 4 rfl rfl)
theorem dJ4_floorMod_5 : decode cJ4_floorMod 5 = .ok (.iload_n 1, 1) := dk_27 (dk_at dksJ4_floorMod_0 5 rfl rfl)
theorem dJ4_floorMod_6 : decode cJ4_floorMod 6 = .ok (.ixor, 1) := dk_130 (dk_at dksJ4_floorMod_0 6 rfl rfl)
theorem dJ4_floorMod_7 : decode cJ4_floorMod 7 = .ok (.ifCond .ge 11, 3) := dk_156 0 11 (dk_at dksJ4_floorMod_0 7 rfl rfl)
theorem dJ4_floorMod_10 : decode cJ4_floorMod 10 = .ok (.iload_n 2, 1) := dk_28 (dk_at dksJ4_floorMod_0 10 rfl rfl)
theorem dJ4_floorMod_11 : decode cJ4_floorMod 11 = .ok (.ifCond .eq 7, 3) := dk_153 0 7 (dk_at dksJ4_floorMod_0 11 rfl rfl)
theorem dJ4_floorMod_14 : decode cJ4_floorMod 14 = .ok (.iload_n 2, 1) := dk_28 (dk_at dksJ4_floorMod_0 14 rfl rfl)
theorem dJ4_floorMod_15 : decode cJ4_floorMod 15 = .ok (.iload_n 1, 1) := dk_27 (dk_at dksJ4_floorMod_0 15 rfl rfl)
theorem dJ4_floorMod_16 : decode cJ4_floorMod 16 = .ok (.iadd, 1) := dk_96 (dk_at dksJ4_floorMod_0 16 rfl rfl)
theorem dJ4_floorMod_17 : decode cJ4_floorMod 17 = .ok (.ireturn, 1) := dk_172 (dk_at dksJ4_floorMod_0 17 rfl rfl)
theorem dJ4_floorMod_18 : decode cJ4_floorMod 18 = .ok (.iload_n 2, 1) := dk_28 (dk_at dksJ4_floorMod_0 18 rfl rfl)
theorem dJ4_floorMod_19 : decode cJ4_floorMod 19 = .ok (.ireturn, 1) := dk_172 (dk_at dksJ4_floorMod_0 19 rfl rfl)
theorem q105 : (Jvm.Cond.initialized "java/lang/Math") ∈ lw_all := lw_g (lw_at lw_m1 10 rfl) rfl
theorem q348 : (Jvm.Cond.static ({ cls := "java/lang/Math", name := "max", desc := "(II)I" } : Jvm.MethodName)) ∈ lw_all := lw_g (lw_at lw_m2 13 rfl) rfl
theorem q349 : (Jvm.Cond.code ({ cls := "java/lang/Math", name := "max", desc := "(II)I" } : Jvm.MethodName) prog_35_method_65_code (2 : Nat) (Option.some Jvm.ClassFile.FieldType.int)) ∈ lw_all := lw_g (lw_at lw_m2 14 rfl) rfl
theorem q394 : (Jvm.Cond.static ({ cls := "java/lang/Math", name := "min", desc := "(II)I" } : Jvm.MethodName)) ∈ lw_all := lw_g (lw_at lw_m2 59 rfl) rfl
theorem q395 : (Jvm.Cond.code ({ cls := "java/lang/Math", name := "min", desc := "(II)I" } : Jvm.MethodName) prog_35_method_69_code (2 : Nat) (Option.some Jvm.ClassFile.FieldType.int)) ∈ lw_all := lw_g (lw_at lw_m2 60 rfl) rfl
theorem q1468 : (Jvm.Cond.static ({ cls := "java/lang/Math", name := "floorMod", desc := "(II)I" } : Jvm.MethodName)) ∈ lw_all := lw_g (lw_at lw_m6 173 rfl) rfl
theorem q1469 : (Jvm.Cond.code ({ cls := "java/lang/Math", name := "floorMod", desc := "(II)I" } : Jvm.MethodName) prog_35_method_50_code (3 : Nat) (Option.some Jvm.ClassFile.FieldType.int)) ∈ lw_all := lw_g (lw_at lw_m6 174 rfl) rfl

/-! java/util/Arrays -/
set_option maxRecDepth 100000
def RJ5 : String := "java/util/Arrays"
abbrev cJ5_copyOf : ByteArray := prog_47_method_119_code
def yJ5_copyOf : MethodName := ⟨RJ5, "copyOf", "([Ljava/lang/Object;I)[Ljava/lang/Object;"⟩
def dkwJ5_copyOf_0 : List UInt8 := [42, 27, 42, 182, 0, 86, 184, 1, 44, 176]
abbrev dktJ5_copyOf_0 : List UInt8 := dkwJ5_copyOf_0 ++ []
theorem dksJ5_copyOf_0 : cJ5_copyOf.data.toList.drop 0 = dktJ5_copyOf_0 := by decide +kernel
theorem dJ5_copyOf_0 : decode cJ5_copyOf 0 = .ok (.aload_n 0, 1) := dk_42 (dk_at dksJ5_copyOf_0 0 rfl rfl)
theorem dJ5_copyOf_1 : decode cJ5_copyOf 1 = .ok (.iload_n 1, 1) := dk_27 (dk_at dksJ5_copyOf_0 1 rfl rfl)
theorem dJ5_copyOf_2 : decode cJ5_copyOf 2 = .ok (.aload_n 0, 1) := dk_42 (dk_at dksJ5_copyOf_0 2 rfl rfl)
theorem dJ5_copyOf_3 : decode cJ5_copyOf 3 = .ok (.invokevirtual 86, 3) := dk_182 0 86 (dk_at dksJ5_copyOf_0 3 rfl rfl)
theorem dJ5_copyOf_6 : decode cJ5_copyOf 6 = .ok (.invokestatic 300, 3) := dk_184 1 44 (dk_at dksJ5_copyOf_0 6 rfl rfl)
theorem dJ5_copyOf_9 : decode cJ5_copyOf 9 = .ok (.areturn, 1) := dk_176 (dk_at dksJ5_copyOf_0 9 rfl rfl)
abbrev cJ5_copyOf_2 : ByteArray := prog_47_method_120_code
def yJ5_copyOf_2 : MethodName := ⟨RJ5, "copyOf", "([Ljava/lang/Object;ILjava/lang/Class;)[Ljava/lang/Object;"⟩
def dkwJ5_copyOf_2_1 : List UInt8 := [78, 42, 3, 45, 3, 42, 190, 27, 184, 1, 48, 184, 0, 150, 45, 176]
abbrev dktJ5_copyOf_2_1 : List UInt8 := dkwJ5_copyOf_2_1 ++ []
def dkwJ5_copyOf_2_0 : List UInt8 := [44, 18, 110, 166, 0, 10, 27, 189, 0, 2, 167, 0, 14, 44, 182, 0, 90, 27, 184, 0, 95, 192, 0, 110]
abbrev dktJ5_copyOf_2_0 : List UInt8 := dkwJ5_copyOf_2_0 ++ dktJ5_copyOf_2_1
theorem dksJ5_copyOf_2_0 : cJ5_copyOf_2.data.toList.drop 0 = dktJ5_copyOf_2_0 := by decide +kernel
theorem dksJ5_copyOf_2_1 : cJ5_copyOf_2.data.toList.drop 24 = dktJ5_copyOf_2_1 := dk_seg dksJ5_copyOf_2_0 24 rfl rfl
theorem dJ5_copyOf_2_0 : decode cJ5_copyOf_2 0 = .ok (.aload_n 2, 1) := dk_44 (dk_at dksJ5_copyOf_2_0 0 rfl rfl)
theorem dJ5_copyOf_2_1 : decode cJ5_copyOf_2 1 = .ok (.ldc 110, 2) := dk_18 110 (dk_at dksJ5_copyOf_2_0 1 rfl rfl)
theorem dJ5_copyOf_2_3 : decode cJ5_copyOf_2 3 = .ok (.if_acmp .ne 10, 3) := dk_166 0 10 (dk_at dksJ5_copyOf_2_0 3 rfl rfl)
theorem dJ5_copyOf_2_6 : decode cJ5_copyOf_2 6 = .ok (.iload_n 1, 1) := dk_27 (dk_at dksJ5_copyOf_2_0 6 rfl rfl)
theorem dJ5_copyOf_2_7 : decode cJ5_copyOf_2 7 = .ok (.anewarray 2, 3) := dk_189 0 2 (dk_at dksJ5_copyOf_2_0 7 rfl rfl)
theorem dJ5_copyOf_2_10 : decode cJ5_copyOf_2 10 = .ok (.goto 14, 3) := dk_167 0 14 (dk_at dksJ5_copyOf_2_0 10 rfl rfl)
theorem dJ5_copyOf_2_13 : decode cJ5_copyOf_2 13 = .ok (.aload_n 2, 1) := dk_44 (dk_at dksJ5_copyOf_2_0 13 rfl rfl)
theorem dJ5_copyOf_2_14 : decode cJ5_copyOf_2 14 = .ok (.invokevirtual 90, 3) := dk_182 0 90 (dk_at dksJ5_copyOf_2_0 14 rfl rfl)
theorem dJ5_copyOf_2_17 : decode cJ5_copyOf_2 17 = .ok (.iload_n 1, 1) := dk_27 (dk_at dksJ5_copyOf_2_0 17 rfl rfl)
theorem dJ5_copyOf_2_18 : decode cJ5_copyOf_2 18 = .ok (.invokestatic 95, 3) := dk_184 0 95 (dk_at dksJ5_copyOf_2_0 18 rfl rfl)
theorem dJ5_copyOf_2_21 : decode cJ5_copyOf_2 21 = .ok (.checkcast 110, 3) := dk_192 0 110 (dk_at dksJ5_copyOf_2_0 21 rfl rfl)
theorem dJ5_copyOf_2_24 : decode cJ5_copyOf_2 24 = .ok (.astore_n 3, 1) := dk_78 (dk_at dksJ5_copyOf_2_1 0 rfl rfl)
theorem dJ5_copyOf_2_25 : decode cJ5_copyOf_2 25 = .ok (.aload_n 0, 1) := dk_42 (dk_at dksJ5_copyOf_2_1 1 rfl rfl)
theorem dJ5_copyOf_2_26 : decode cJ5_copyOf_2 26 = .ok (.iconst 0, 1) := dk_3 (dk_at dksJ5_copyOf_2_1 2 rfl rfl)
theorem dJ5_copyOf_2_27 : decode cJ5_copyOf_2 27 = .ok (.aload_n 3, 1) := dk_45 (dk_at dksJ5_copyOf_2_1 3 rfl rfl)
theorem dJ5_copyOf_2_28 : decode cJ5_copyOf_2 28 = .ok (.iconst 0, 1) := dk_3 (dk_at dksJ5_copyOf_2_1 4 rfl rfl)
theorem dJ5_copyOf_2_29 : decode cJ5_copyOf_2 29 = .ok (.aload_n 0, 1) := dk_42 (dk_at dksJ5_copyOf_2_1 5 rfl rfl)
theorem dJ5_copyOf_2_30 : decode cJ5_copyOf_2 30 = .ok (.arraylength, 1) := dk_190 (dk_at dksJ5_copyOf_2_1 6 rfl rfl)
theorem dJ5_copyOf_2_31 : decode cJ5_copyOf_2 31 = .ok (.iload_n 1, 1) := dk_27 (dk_at dksJ5_copyOf_2_1 7 rfl rfl)
theorem dJ5_copyOf_2_32 : decode cJ5_copyOf_2 32 = .ok (.invokestatic 304, 3) := dk_184 1 48 (dk_at dksJ5_copyOf_2_1 8 rfl rfl)
theorem dJ5_copyOf_2_35 : decode cJ5_copyOf_2 35 = .ok (.invokestatic 150, 3) := dk_184 0 150 (dk_at dksJ5_copyOf_2_1 11 rfl rfl)
theorem dJ5_copyOf_2_38 : decode cJ5_copyOf_2 38 = .ok (.aload_n 3, 1) := dk_45 (dk_at dksJ5_copyOf_2_1 14 rfl rfl)
theorem dJ5_copyOf_2_39 : decode cJ5_copyOf_2 39 = .ok (.areturn, 1) := dk_176 (dk_at dksJ5_copyOf_2_1 15 rfl rfl)
abbrev cJ5_copyOf_3 : ByteArray := prog_47_method_121_code
def yJ5_copyOf_3 : MethodName := ⟨RJ5, "copyOf", "([BI)[B"⟩
def dkwJ5_copyOf_3_1 : List UInt8 := [27, 184, 1, 48, 184, 0, 150, 44, 176]
abbrev dktJ5_copyOf_3_1 : List UInt8 := dkwJ5_copyOf_3_1 ++ []
def dkwJ5_copyOf_3_0 : List UInt8 := [27, 42, 190, 160, 0, 11, 42, 182, 1, 54, 192, 1, 55, 176, 27, 188, 8, 77, 42, 3, 44, 3, 42, 190]
abbrev dktJ5_copyOf_3_0 : List UInt8 := dkwJ5_copyOf_3_0 ++ dktJ5_copyOf_3_1
theorem dksJ5_copyOf_3_0 : cJ5_copyOf_3.data.toList.drop 0 = dktJ5_copyOf_3_0 := by decide +kernel
theorem dksJ5_copyOf_3_1 : cJ5_copyOf_3.data.toList.drop 24 = dktJ5_copyOf_3_1 := dk_seg dksJ5_copyOf_3_0 24 rfl rfl
theorem dJ5_copyOf_3_0 : decode cJ5_copyOf_3 0 = .ok (.iload_n 1, 1) := dk_27 (dk_at dksJ5_copyOf_3_0 0 rfl rfl)
theorem dJ5_copyOf_3_1 : decode cJ5_copyOf_3 1 = .ok (.aload_n 0, 1) := dk_42 (dk_at dksJ5_copyOf_3_0 1 rfl rfl)
theorem dJ5_copyOf_3_2 : decode cJ5_copyOf_3 2 = .ok (.arraylength, 1) := dk_190 (dk_at dksJ5_copyOf_3_0 2 rfl rfl)
theorem dJ5_copyOf_3_3 : decode cJ5_copyOf_3 3 = .ok (.if_icmp .ne 11, 3) := dk_160 0 11 (dk_at dksJ5_copyOf_3_0 3 rfl rfl)
theorem dJ5_copyOf_3_6 : decode cJ5_copyOf_3 6 = .ok (.aload_n 0, 1) := dk_42 (dk_at dksJ5_copyOf_3_0 6 rfl rfl)
theorem dJ5_copyOf_3_7 : decode cJ5_copyOf_3 7 = .ok (.invokevirtual 310, 3) := dk_182 1 54 (dk_at dksJ5_copyOf_3_0 7 rfl rfl)
theorem dJ5_copyOf_3_10 : decode cJ5_copyOf_3 10 = .ok (.checkcast 311, 3) := dk_192 1 55 (dk_at dksJ5_copyOf_3_0 10 rfl rfl)
theorem dJ5_copyOf_3_13 : decode cJ5_copyOf_3 13 = .ok (.areturn, 1) := dk_176 (dk_at dksJ5_copyOf_3_0 13 rfl rfl)
theorem dJ5_copyOf_3_14 : decode cJ5_copyOf_3 14 = .ok (.iload_n 1, 1) := dk_27 (dk_at dksJ5_copyOf_3_0 14 rfl rfl)
theorem dJ5_copyOf_3_15 : decode cJ5_copyOf_3 15 = .ok (.newarray .byte, 2) := dk_188_8 (dk_at dksJ5_copyOf_3_0 15 rfl rfl)
theorem dJ5_copyOf_3_17 : decode cJ5_copyOf_3 17 = .ok (.astore_n 2, 1) := dk_77 (dk_at dksJ5_copyOf_3_0 17 rfl rfl)
theorem dJ5_copyOf_3_18 : decode cJ5_copyOf_3 18 = .ok (.aload_n 0, 1) := dk_42 (dk_at dksJ5_copyOf_3_0 18 rfl rfl)
theorem dJ5_copyOf_3_19 : decode cJ5_copyOf_3 19 = .ok (.iconst 0, 1) := dk_3 (dk_at dksJ5_copyOf_3_0 19 rfl rfl)
theorem dJ5_copyOf_3_20 : decode cJ5_copyOf_3 20 = .ok (.aload_n 2, 1) := dk_44 (dk_at dksJ5_copyOf_3_0 20 rfl rfl)
theorem dJ5_copyOf_3_21 : decode cJ5_copyOf_3 21 = .ok (.iconst 0, 1) := dk_3 (dk_at dksJ5_copyOf_3_0 21 rfl rfl)
theorem dJ5_copyOf_3_22 : decode cJ5_copyOf_3 22 = .ok (.aload_n 0, 1) := dk_42 (dk_at dksJ5_copyOf_3_0 22 rfl rfl)
theorem dJ5_copyOf_3_23 : decode cJ5_copyOf_3 23 = .ok (.arraylength, 1) := dk_190 (dk_at dksJ5_copyOf_3_0 23 rfl rfl)
theorem dJ5_copyOf_3_24 : decode cJ5_copyOf_3 24 = .ok (.iload_n 1, 1) := dk_27 (dk_at dksJ5_copyOf_3_1 0 rfl rfl)
theorem dJ5_copyOf_3_25 : decode cJ5_copyOf_3 25 = .ok (.invokestatic 304, 3) := dk_184 1 48 (dk_at dksJ5_copyOf_3_1 1 rfl rfl)
theorem dJ5_copyOf_3_28 : decode cJ5_copyOf_3 28 = .ok (.invokestatic 150, 3) := dk_184 0 150 (dk_at dksJ5_copyOf_3_1 4 rfl rfl)
theorem dJ5_copyOf_3_31 : decode cJ5_copyOf_3 31 = .ok (.aload_n 2, 1) := dk_44 (dk_at dksJ5_copyOf_3_1 7 rfl rfl)
theorem dJ5_copyOf_3_32 : decode cJ5_copyOf_3 32 = .ok (.areturn, 1) := dk_176 (dk_at dksJ5_copyOf_3_1 8 rfl rfl)
abbrev cJ5_copyOfRange : ByteArray := prog_47_method_132_code
def yJ5_copyOfRange : MethodName := ⟨RJ5, "copyOfRange", "([BII)[B"⟩
def dkwJ5_copyOfRange_1 : List UInt8 := [176]
abbrev dktJ5_copyOfRange_1 : List UInt8 := dkwJ5_copyOfRange_1 ++ []
def dkwJ5_copyOfRange_0 : List UInt8 := [27, 154, 0, 9, 28, 42, 190, 159, 0, 10, 42, 27, 28, 184, 1, 83, 176, 42, 182, 1, 54, 192, 1, 55]
abbrev dktJ5_copyOfRange_0 : List UInt8 := dkwJ5_copyOfRange_0 ++ dktJ5_copyOfRange_1
theorem dksJ5_copyOfRange_0 : cJ5_copyOfRange.data.toList.drop 0 = dktJ5_copyOfRange_0 := by decide +kernel
theorem dksJ5_copyOfRange_1 : cJ5_copyOfRange.data.toList.drop 24 = dktJ5_copyOfRange_1 := dk_seg dksJ5_copyOfRange_0 24 rfl rfl
theorem dJ5_copyOfRange_0 : decode cJ5_copyOfRange 0 = .ok (.iload_n 1, 1) := dk_27 (dk_at dksJ5_copyOfRange_0 0 rfl rfl)
theorem dJ5_copyOfRange_1 : decode cJ5_copyOfRange 1 = .ok (.ifCond .ne 9, 3) := dk_154 0 9 (dk_at dksJ5_copyOfRange_0 1 rfl rfl)
theorem dJ5_copyOfRange_4 : decode cJ5_copyOfRange 4 = .ok (.iload_n 2, 1) := dk_28 (dk_at dksJ5_copyOfRange_0 4 rfl rfl)
theorem dJ5_copyOfRange_5 : decode cJ5_copyOfRange 5 = .ok (.aload_n 0, 1) := dk_42 (dk_at dksJ5_copyOfRange_0 5 rfl rfl)
theorem dJ5_copyOfRange_6 : decode cJ5_copyOfRange 6 = .ok (.arraylength, 1) := dk_190 (dk_at dksJ5_copyOfRange_0 6 rfl rfl)
theorem dJ5_copyOfRange_7 : decode cJ5_copyOfRange 7 = .ok (.if_icmp .eq 10, 3) := dk_159 0 10 (dk_at dksJ5_copyOfRange_0 7 rfl rfl)
theorem dJ5_copyOfRange_10 : decode cJ5_copyOfRange 10 = .ok (.aload_n 0, 1) := dk_42 (dk_at dksJ5_copyOfRange_0 10 rfl rfl)
theorem dJ5_copyOfRange_11 : decode cJ5_copyOfRange 11 = .ok (.iload_n 1, 1) := dk_27 (dk_at dksJ5_copyOfRange_0 11 rfl rfl)
theorem dJ5_copyOfRange_12 : decode cJ5_copyOfRange 12 = .ok (.iload_n 2, 1) := dk_28 (dk_at dksJ5_copyOfRange_0 12 rfl rfl)
theorem dJ5_copyOfRange_13 : decode cJ5_copyOfRange 13 = .ok (.invokestatic 339, 3) := dk_184 1 83 (dk_at dksJ5_copyOfRange_0 13 rfl rfl)
theorem dJ5_copyOfRange_16 : decode cJ5_copyOfRange 16 = .ok (.areturn, 1) := dk_176 (dk_at dksJ5_copyOfRange_0 16 rfl rfl)
theorem dJ5_copyOfRange_17 : decode cJ5_copyOfRange 17 = .ok (.aload_n 0, 1) := dk_42 (dk_at dksJ5_copyOfRange_0 17 rfl rfl)
theorem dJ5_copyOfRange_18 : decode cJ5_copyOfRange 18 = .ok (.invokevirtual 310, 3) := dk_182 1 54 (dk_at dksJ5_copyOfRange_0 18 rfl rfl)
theorem dJ5_copyOfRange_21 : decode cJ5_copyOfRange 21 = .ok (.checkcast 311, 3) := dk_192 1 55 (dk_at dksJ5_copyOfRange_0 21 rfl rfl)
theorem dJ5_copyOfRange_24 : decode cJ5_copyOfRange 24 = .ok (.areturn, 1) := dk_176 (dk_at dksJ5_copyOfRange_1 0 rfl rfl)
abbrev cJ5_copyOfRangeByte : ByteArray := prog_47_method_133_code
def yJ5_copyOfRangeByte : MethodName := ⟨RJ5, "copyOfRangeByte", "([BII)[B"⟩
def dkwJ5_copyOfRangeByte_1 : List UInt8 := [184, 1, 48, 184, 0, 150, 25, 4, 176]
abbrev dktJ5_copyOfRangeByte_1 : List UInt8 := dkwJ5_copyOfRangeByte_1 ++ []
def dkwJ5_copyOfRangeByte_0 : List UInt8 := [27, 28, 184, 1, 87, 28, 27, 100, 62, 29, 188, 8, 58, 4, 42, 27, 25, 4, 3, 42, 190, 27, 100, 29]
abbrev dktJ5_copyOfRangeByte_0 : List UInt8 := dkwJ5_copyOfRangeByte_0 ++ dktJ5_copyOfRangeByte_1
theorem dksJ5_copyOfRangeByte_0 : cJ5_copyOfRangeByte.data.toList.drop 0 = dktJ5_copyOfRangeByte_0 := by decide +kernel
theorem dksJ5_copyOfRangeByte_1 : cJ5_copyOfRangeByte.data.toList.drop 24 = dktJ5_copyOfRangeByte_1 := dk_seg dksJ5_copyOfRangeByte_0 24 rfl rfl
theorem dJ5_copyOfRangeByte_0 : decode cJ5_copyOfRangeByte 0 = .ok (.iload_n 1, 1) := dk_27 (dk_at dksJ5_copyOfRangeByte_0 0 rfl rfl)
theorem dJ5_copyOfRangeByte_1 : decode cJ5_copyOfRangeByte 1 = .ok (.iload_n 2, 1) := dk_28 (dk_at dksJ5_copyOfRangeByte_0 1 rfl rfl)
theorem dJ5_copyOfRangeByte_2 : decode cJ5_copyOfRangeByte 2 = .ok (.invokestatic 343, 3) := dk_184 1 87 (dk_at dksJ5_copyOfRangeByte_0 2 rfl rfl)
theorem dJ5_copyOfRangeByte_5 : decode cJ5_copyOfRangeByte 5 = .ok (.iload_n 2, 1) := dk_28 (dk_at dksJ5_copyOfRangeByte_0 5 rfl rfl)
theorem dJ5_copyOfRangeByte_6 : decode cJ5_copyOfRangeByte 6 = .ok (.iload_n 1, 1) := dk_27 (dk_at dksJ5_copyOfRangeByte_0 6 rfl rfl)
theorem dJ5_copyOfRangeByte_7 : decode cJ5_copyOfRangeByte 7 = .ok (.isub, 1) := dk_100 (dk_at dksJ5_copyOfRangeByte_0 7 rfl rfl)
theorem dJ5_copyOfRangeByte_8 : decode cJ5_copyOfRangeByte 8 = .ok (.istore_n 3, 1) := dk_62 (dk_at dksJ5_copyOfRangeByte_0 8 rfl rfl)
theorem dJ5_copyOfRangeByte_9 : decode cJ5_copyOfRangeByte 9 = .ok (.iload_n 3, 1) := dk_29 (dk_at dksJ5_copyOfRangeByte_0 9 rfl rfl)
theorem dJ5_copyOfRangeByte_10 : decode cJ5_copyOfRangeByte 10 = .ok (.newarray .byte, 2) := dk_188_8 (dk_at dksJ5_copyOfRangeByte_0 10 rfl rfl)
theorem dJ5_copyOfRangeByte_12 : decode cJ5_copyOfRangeByte 12 = .ok (.astore 4, 2) := dk_58 4 (dk_at dksJ5_copyOfRangeByte_0 12 rfl rfl)
theorem dJ5_copyOfRangeByte_14 : decode cJ5_copyOfRangeByte 14 = .ok (.aload_n 0, 1) := dk_42 (dk_at dksJ5_copyOfRangeByte_0 14 rfl rfl)
theorem dJ5_copyOfRangeByte_15 : decode cJ5_copyOfRangeByte 15 = .ok (.iload_n 1, 1) := dk_27 (dk_at dksJ5_copyOfRangeByte_0 15 rfl rfl)
theorem dJ5_copyOfRangeByte_16 : decode cJ5_copyOfRangeByte 16 = .ok (.aload 4, 2) := dk_25 4 (dk_at dksJ5_copyOfRangeByte_0 16 rfl rfl)
theorem dJ5_copyOfRangeByte_18 : decode cJ5_copyOfRangeByte 18 = .ok (.iconst 0, 1) := dk_3 (dk_at dksJ5_copyOfRangeByte_0 18 rfl rfl)
theorem dJ5_copyOfRangeByte_19 : decode cJ5_copyOfRangeByte 19 = .ok (.aload_n 0, 1) := dk_42 (dk_at dksJ5_copyOfRangeByte_0 19 rfl rfl)
theorem dJ5_copyOfRangeByte_20 : decode cJ5_copyOfRangeByte 20 = .ok (.arraylength, 1) := dk_190 (dk_at dksJ5_copyOfRangeByte_0 20 rfl rfl)
theorem dJ5_copyOfRangeByte_21 : decode cJ5_copyOfRangeByte 21 = .ok (.iload_n 1, 1) := dk_27 (dk_at dksJ5_copyOfRangeByte_0 21 rfl rfl)
theorem dJ5_copyOfRangeByte_22 : decode cJ5_copyOfRangeByte 22 = .ok (.isub, 1) := dk_100 (dk_at dksJ5_copyOfRangeByte_0 22 rfl rfl)
theorem dJ5_copyOfRangeByte_23 : decode cJ5_copyOfRangeByte 23 = .ok (.iload_n 3, 1) := dk_29 (dk_at dksJ5_copyOfRangeByte_0 23 rfl rfl)
theorem dJ5_copyOfRangeByte_24 : decode cJ5_copyOfRangeByte 24 = .ok (.invokestatic 304, 3) := dk_184 1 48 (dk_at dksJ5_copyOfRangeByte_1 0 rfl rfl)
theorem dJ5_copyOfRangeByte_27 : decode cJ5_copyOfRangeByte 27 = .ok (.invokestatic 150, 3) := dk_184 0 150 (dk_at dksJ5_copyOfRangeByte_1 3 rfl rfl)
theorem dJ5_copyOfRangeByte_30 : decode cJ5_copyOfRangeByte 30 = .ok (.aload 4, 2) := dk_25 4 (dk_at dksJ5_copyOfRangeByte_1 6 rfl rfl)
theorem dJ5_copyOfRangeByte_32 : decode cJ5_copyOfRangeByte 32 = .ok (.areturn, 1) := dk_176 (dk_at dksJ5_copyOfRangeByte_1 8 rfl rfl)
abbrev cJ5_checkLength : ByteArray := prog_47_method_131_code
def yJ5_checkLength : MethodName := ⟨RJ5, "checkLength", "(II)V"⟩
def dkwJ5_checkLength_1 : List UInt8 := [182, 0, 50, 27, 182, 0, 54, 182, 0, 61, 183, 0, 65, 191, 177]
abbrev dktJ5_checkLength_1 : List UInt8 := dkwJ5_checkLength_1 ++ []
def dkwJ5_checkLength_0 : List UInt8 := [27, 26, 162, 0, 35, 187, 0, 43, 89, 187, 0, 45, 89, 183, 0, 47, 26, 182, 0, 54, 19, 1, 81]
abbrev dktJ5_checkLength_0 : List UInt8 := dkwJ5_checkLength_0 ++ dktJ5_checkLength_1
theorem dksJ5_checkLength_0 : cJ5_checkLength.data.toList.drop 0 = dktJ5_checkLength_0 := by decide +kernel
theorem dksJ5_checkLength_1 : cJ5_checkLength.data.toList.drop 23 = dktJ5_checkLength_1 := dk_seg dksJ5_checkLength_0 23 rfl rfl
theorem dJ5_checkLength_0 : decode cJ5_checkLength 0 = .ok (.iload_n 1, 1) := dk_27 (dk_at dksJ5_checkLength_0 0 rfl rfl)
theorem dJ5_checkLength_1 : decode cJ5_checkLength 1 = .ok (.iload_n 0, 1) := dk_26 (dk_at dksJ5_checkLength_0 1 rfl rfl)
theorem dJ5_checkLength_2 : decode cJ5_checkLength 2 = .ok (.if_icmp .ge 35, 3) := dk_162 0 35 (dk_at dksJ5_checkLength_0 2 rfl rfl)
theorem dJ5_checkLength_5 : decode cJ5_checkLength 5 = .ok (.new 43, 3) := dk_187 0 43 (dk_at dksJ5_checkLength_0 5 rfl rfl)
theorem dJ5_checkLength_8 : decode cJ5_checkLength 8 = .ok (.dup, 1) := dk_89 (dk_at dksJ5_checkLength_0 8 rfl rfl)
theorem dJ5_checkLength_9 : decode cJ5_checkLength 9 = .ok (.new 45, 3) := dk_187 0 45 (dk_at dksJ5_checkLength_0 9 rfl rfl)
theorem dJ5_checkLength_12 : decode cJ5_checkLength 12 = .ok (.dup, 1) := dk_89 (dk_at dksJ5_checkLength_0 12 rfl rfl)
theorem dJ5_checkLength_13 : decode cJ5_checkLength 13 = .ok (.invokespecial 47, 3) := dk_183 0 47 (dk_at dksJ5_checkLength_0 13 rfl rfl)
theorem dJ5_checkLength_16 : decode cJ5_checkLength 16 = .ok (.iload_n 0, 1) := dk_26 (dk_at dksJ5_checkLength_0 16 rfl rfl)
theorem dJ5_checkLength_17 : decode cJ5_checkLength 17 = .ok (.invokevirtual 54, 3) := dk_182 0 54 (dk_at dksJ5_checkLength_0 17 rfl rfl)
theorem dJ5_checkLength_20 : decode cJ5_checkLength 20 = .ok (.ldc_w 337, 3) := dk_19 1 81 (dk_at dksJ5_checkLength_0 20 rfl rfl)
theorem dJ5_checkLength_23 : decode cJ5_checkLength 23 = .ok (.invokevirtual 50, 3) := dk_182 0 50 (dk_at dksJ5_checkLength_1 0 rfl rfl)
theorem dJ5_checkLength_26 : decode cJ5_checkLength 26 = .ok (.iload_n 1, 1) := dk_27 (dk_at dksJ5_checkLength_1 3 rfl rfl)
theorem dJ5_checkLength_27 : decode cJ5_checkLength 27 = .ok (.invokevirtual 54, 3) := dk_182 0 54 (dk_at dksJ5_checkLength_1 4 rfl rfl)
theorem dJ5_checkLength_30 : decode cJ5_checkLength 30 = .ok (.invokevirtual 61, 3) := dk_182 0 61 (dk_at dksJ5_checkLength_1 7 rfl rfl)
theorem dJ5_checkLength_33 : decode cJ5_checkLength 33 = .ok (.invokespecial 65, 3) := dk_183 0 65 (dk_at dksJ5_checkLength_1 10 rfl rfl)
theorem dJ5_checkLength_36 : decode cJ5_checkLength 36 = .ok (.athrow, 1) := dk_191 (dk_at dksJ5_checkLength_1 13 rfl rfl)
theorem dJ5_checkLength_37 : decode cJ5_checkLength 37 = .ok (.return_, 1) := dk_177 (dk_at dksJ5_checkLength_1 14 rfl rfl)
theorem q106 : (Jvm.Cond.initialized "java/util/Arrays") ∈ lw_all := lw_g (lw_at lw_m1 11 rfl) rfl
theorem q355 : (Jvm.Cond.static ({ cls := "java/util/Arrays", name := "copyOf", desc := "([Ljava/lang/Object;I)[Ljava/lang/Object;" } : Jvm.MethodName)) ∈ lw_all := lw_g (lw_at lw_m2 20 rfl) rfl
theorem q356 : (Jvm.Cond.code ({ cls := "java/util/Arrays", name := "copyOf", desc := "([Ljava/lang/Object;I)[Ljava/lang/Object;" } : Jvm.MethodName) prog_47_method_119_code (2 : Nat) (Option.some (Jvm.ClassFile.FieldType.array (Jvm.ClassFile.FieldType.object "java/lang/Object")))) ∈ lw_all := lw_g (lw_at lw_m2 21 rfl) rfl
theorem q357 : (Jvm.Cond.methodLink "java/util/Arrays" (86 : Nat) ({ cls := "java/lang/Object", name := "getClass", desc := "()Ljava/lang/Class;" } : Jvm.MethodName)) ∈ lw_all := lw_g (lw_at lw_m2 22 rfl) rfl
theorem q387 : (Jvm.Cond.methodLink "java/util/Arrays" (300 : Nat) ({ cls := "java/util/Arrays", name := "copyOf", desc := "([Ljava/lang/Object;ILjava/lang/Class;)[Ljava/lang/Object;" } : Jvm.MethodName)) ∈ lw_all := lw_g (lw_at lw_m2 52 rfl) rfl
theorem q388 : (Jvm.Cond.static ({ cls := "java/util/Arrays", name := "copyOf", desc := "([Ljava/lang/Object;ILjava/lang/Class;)[Ljava/lang/Object;" } : Jvm.MethodName)) ∈ lw_all := lw_g (lw_at lw_m2 53 rfl) rfl
theorem q389 : (Jvm.Cond.code ({ cls := "java/util/Arrays", name := "copyOf", desc := "([Ljava/lang/Object;ILjava/lang/Class;)[Ljava/lang/Object;" } : Jvm.MethodName) prog_47_method_120_code (4 : Nat) (Option.some (Jvm.ClassFile.FieldType.array (Jvm.ClassFile.FieldType.object "java/lang/Object")))) ∈ lw_all := lw_g (lw_at lw_m2 54 rfl) rfl
theorem q390 : (Jvm.Cond.classLink "java/util/Arrays" (110 : Nat) "[Ljava/lang/Object;") ∈ lw_all := lw_g (lw_at lw_m2 55 rfl) rfl
theorem q392 : (Jvm.Cond.classLink "java/util/Arrays" (2 : Nat) "java/lang/Object") ∈ lw_all := lw_g (lw_at lw_m2 57 rfl) rfl
theorem q393 : (Jvm.Cond.methodLink "java/util/Arrays" (304 : Nat) ({ cls := "java/lang/Math", name := "min", desc := "(II)I" } : Jvm.MethodName)) ∈ lw_all := lw_g (lw_at lw_m2 58 rfl) rfl
theorem q396 : (Jvm.Cond.methodLink "java/util/Arrays" (150 : Nat) ({ cls := "java/lang/System", name := "arraycopy", desc := "(Ljava/lang/Object;ILjava/lang/Object;II)V" } : Jvm.MethodName)) ∈ lw_all := lw_g (lw_at lw_m2 61 rfl) rfl
theorem q1167 : (Jvm.Cond.static ({ cls := "java/util/Arrays", name := "copyOf", desc := "([BI)[B" } : Jvm.MethodName)) ∈ lw_all := lw_g (lw_at lw_m5 112 rfl) rfl
theorem q1168 : (Jvm.Cond.code ({ cls := "java/util/Arrays", name := "copyOf", desc := "([BI)[B" } : Jvm.MethodName) prog_47_method_121_code (3 : Nat) (Option.some (Jvm.ClassFile.FieldType.array Jvm.ClassFile.FieldType.byte))) ∈ lw_all := lw_g (lw_at lw_m5 113 rfl) rfl
theorem q1169 : (Jvm.Cond.methodLink "java/util/Arrays" (310 : Nat) ({ cls := "[B", name := "clone", desc := "()Ljava/lang/Object;" } : Jvm.MethodName)) ∈ lw_all := lw_g (lw_at lw_m5 114 rfl) rfl
theorem q1173 : (Jvm.Cond.classLink "java/util/Arrays" (311 : Nat) "[B") ∈ lw_all := lw_g (lw_at lw_m5 118 rfl) rfl
theorem q1301 : (Jvm.Cond.static ({ cls := "java/util/Arrays", name := "copyOfRange", desc := "([BII)[B" } : Jvm.MethodName)) ∈ lw_all := lw_g (lw_at lw_m6 6 rfl) rfl
theorem q1302 : (Jvm.Cond.code ({ cls := "java/util/Arrays", name := "copyOfRange", desc := "([BII)[B" } : Jvm.MethodName) prog_47_method_132_code (3 : Nat) (Option.some (Jvm.ClassFile.FieldType.array Jvm.ClassFile.FieldType.byte))) ∈ lw_all := lw_g (lw_at lw_m6 7 rfl) rfl
theorem q1303 : (Jvm.Cond.methodLink "java/util/Arrays" (339 : Nat) ({ cls := "java/util/Arrays", name := "copyOfRangeByte", desc := "([BII)[B" } : Jvm.MethodName)) ∈ lw_all := lw_g (lw_at lw_m6 8 rfl) rfl
theorem q1304 : (Jvm.Cond.static ({ cls := "java/util/Arrays", name := "copyOfRangeByte", desc := "([BII)[B" } : Jvm.MethodName)) ∈ lw_all := lw_g (lw_at lw_m6 9 rfl) rfl
theorem q1305 : (Jvm.Cond.code ({ cls := "java/util/Arrays", name := "copyOfRangeByte", desc := "([BII)[B" } : Jvm.MethodName) prog_47_method_133_code (5 : Nat) (Option.some (Jvm.ClassFile.FieldType.array Jvm.ClassFile.FieldType.byte))) ∈ lw_all := lw_g (lw_at lw_m6 10 rfl) rfl
theorem q1306 : (Jvm.Cond.methodLink "java/util/Arrays" (343 : Nat) ({ cls := "java/util/Arrays", name := "checkLength", desc := "(II)V" } : Jvm.MethodName)) ∈ lw_all := lw_g (lw_at lw_m6 11 rfl) rfl
theorem q1307 : (Jvm.Cond.static ({ cls := "java/util/Arrays", name := "checkLength", desc := "(II)V" } : Jvm.MethodName)) ∈ lw_all := lw_g (lw_at lw_m6 12 rfl) rfl
theorem q1308 : (Jvm.Cond.code ({ cls := "java/util/Arrays", name := "checkLength", desc := "(II)V" } : Jvm.MethodName) prog_47_method_131_code (2 : Nat) (Option.none : Option Jvm.ClassFile.FieldType)) ∈ lw_all := lw_g (lw_at lw_m6 13 rfl) rfl
theorem q1309 : (Jvm.Cond.classLink "java/util/Arrays" (43 : Nat) "java/lang/IllegalArgumentException") ∈ lw_all := lw_g (lw_at lw_m6 14 rfl) rfl
theorem q1310 : (Jvm.Cond.classLink "java/util/Arrays" (45 : Nat) "java/lang/StringBuilder") ∈ lw_all := lw_g (lw_at lw_m6 15 rfl) rfl
theorem q1311 : (Jvm.Cond.methodLink "java/util/Arrays" (47 : Nat) ({ cls := "java/lang/StringBuilder", name := "<init>", desc := "()V" } : Jvm.MethodName)) ∈ lw_all := lw_g (lw_at lw_m6 16 rfl) rfl
theorem q1312 : (Jvm.Cond.methodLink "java/util/Arrays" (54 : Nat) ({ cls := "java/lang/StringBuilder", name := "append", desc := "(I)Ljava/lang/StringBuilder;" } : Jvm.MethodName)) ∈ lw_all := lw_g (lw_at lw_m6 17 rfl) rfl
theorem q1313 : (Jvm.Cond.stringRef "java/util/Arrays" (337 : Nat) " > ") ∈ lw_tbl := lw_at lw_m6 18 rfl
theorem q1314 : (Jvm.Cond.methodLink "java/util/Arrays" (50 : Nat) ({ cls := "java/lang/StringBuilder", name := "append", desc := "(Ljava/lang/String;)Ljava/lang/StringBuilder;" } : Jvm.MethodName)) ∈ lw_all := lw_g (lw_at lw_m6 19 rfl) rfl
theorem q1315 : (Jvm.Cond.methodLink "java/util/Arrays" (61 : Nat) ({ cls := "java/lang/StringBuilder", name := "toString", desc := "()Ljava/lang/String;" } : Jvm.MethodName)) ∈ lw_all := lw_g (lw_at lw_m6 20 rfl) rfl
theorem q1316 : (Jvm.Cond.methodLink "java/util/Arrays" (65 : Nat) ({ cls := "java/lang/IllegalArgumentException", name := "<init>", desc := "(Ljava/lang/String;)V" } : Jvm.MethodName)) ∈ lw_all := lw_g (lw_at lw_m6 21 rfl) rfl

/-! java/lang/Throwable -/
set_option maxRecDepth 100000
def RJ6 : String := "java/lang/Throwable"
def TJ6 : u_T := fun k => match k with
  | 0 => ("java/lang/Throwable", "cause", "Ljava/lang/Throwable;", false)
  | 1 => ("java/lang/Throwable", "stackTrace", "[Ljava/lang/StackTraceElement;", false)
  | 2 => ("java/lang/Throwable", "suppressedExceptions", "Ljava/util/List;", false)
  | 3 => ("java/lang/Throwable", "detailMessage", "Ljava/lang/String;", false)
  | _ => ("java/lang/Throwable", "backtrace", "Ljava/lang/Object;", false)
def tyJ6 : Nat → FieldType := fun k => match k with
  | 0 => .object "java/lang/Throwable"
  | 1 => .array (.object "java/lang/StackTraceElement")
  | 2 => .object "java/util/List"
  | 3 => .object "java/lang/String"
  | _ => .object "java/lang/Object"
abbrev wsJ60 : List Cond := u_ws RJ6 TJ6 5
theorem nmJ6 : ∀ a, a < 5 → ∀ b, b < 5 → a ≠ b → (TJ6 a).2.1 ≠ (TJ6 b).2.1 := by decide +kernel
theorem tyJ6_ok : ∀ k, k < 5 → parseFieldDescriptor (TJ6 k).2.2.1 = some (tyJ6 k) := by decide +kernel
abbrev cJ6_init : ByteArray := prog_43_method_2_code
def yJ6_init : MethodName := ⟨RJ6, "<init>", "(Ljava/lang/String;)V"⟩
def dkwJ6_init_1 : List UInt8 := [182, 0, 27, 87, 42, 43, 181, 0, 31, 177]
abbrev dktJ6_init_1 : List UInt8 := dkwJ6_init_1 ++ []
def dkwJ6_init_0 : List UInt8 := [42, 183, 0, 1, 42, 42, 181, 0, 7, 42, 178, 0, 13, 181, 0, 17, 42, 178, 0, 20, 181, 0, 24, 42]
abbrev dktJ6_init_0 : List UInt8 := dkwJ6_init_0 ++ dktJ6_init_1
theorem dksJ6_init_0 : cJ6_init.data.toList.drop 0 = dktJ6_init_0 := by decide +kernel
theorem dksJ6_init_1 : cJ6_init.data.toList.drop 24 = dktJ6_init_1 := dk_seg dksJ6_init_0 24 rfl rfl
theorem dJ6_init_0 : decode cJ6_init 0 = .ok (.aload_n 0, 1) := dk_42 (dk_at dksJ6_init_0 0 rfl rfl)
theorem dJ6_init_1 : decode cJ6_init 1 = .ok (.invokespecial 1, 3) := dk_183 0 1 (dk_at dksJ6_init_0 1 rfl rfl)
theorem dJ6_init_4 : decode cJ6_init 4 = .ok (.aload_n 0, 1) := dk_42 (dk_at dksJ6_init_0 4 rfl rfl)
theorem dJ6_init_5 : decode cJ6_init 5 = .ok (.aload_n 0, 1) := dk_42 (dk_at dksJ6_init_0 5 rfl rfl)
theorem dJ6_init_6 : decode cJ6_init 6 = .ok (.putfield 7, 3) := dk_181 0 7 (dk_at dksJ6_init_0 6 rfl rfl)
theorem dJ6_init_9 : decode cJ6_init 9 = .ok (.aload_n 0, 1) := dk_42 (dk_at dksJ6_init_0 9 rfl rfl)
theorem dJ6_init_10 : decode cJ6_init 10 = .ok (.getstatic 13, 3) := dk_178 0 13 (dk_at dksJ6_init_0 10 rfl rfl)
theorem dJ6_init_13 : decode cJ6_init 13 = .ok (.putfield 17, 3) := dk_181 0 17 (dk_at dksJ6_init_0 13 rfl rfl)
theorem dJ6_init_16 : decode cJ6_init 16 = .ok (.aload_n 0, 1) := dk_42 (dk_at dksJ6_init_0 16 rfl rfl)
theorem dJ6_init_17 : decode cJ6_init 17 = .ok (.getstatic 20, 3) := dk_178 0 20 (dk_at dksJ6_init_0 17 rfl rfl)
theorem dJ6_init_20 : decode cJ6_init 20 = .ok (.putfield 24, 3) := dk_181 0 24 (dk_at dksJ6_init_0 20 rfl rfl)
theorem dJ6_init_23 : decode cJ6_init 23 = .ok (.aload_n 0, 1) := dk_42 (dk_at dksJ6_init_0 23 rfl rfl)
theorem dJ6_init_24 : decode cJ6_init 24 = .ok (.invokevirtual 27, 3) := dk_182 0 27 (dk_at dksJ6_init_1 0 rfl rfl)
theorem dJ6_init_27 : decode cJ6_init 27 = .ok (.pop, 1) := dk_87 (dk_at dksJ6_init_1 3 rfl rfl)
theorem dJ6_init_28 : decode cJ6_init 28 = .ok (.aload_n 0, 1) := dk_42 (dk_at dksJ6_init_1 4 rfl rfl)
theorem dJ6_init_29 : decode cJ6_init 29 = .ok (.aload_n 1, 1) := dk_43 (dk_at dksJ6_init_1 5 rfl rfl)
theorem dJ6_init_30 : decode cJ6_init 30 = .ok (.putfield 31, 3) := dk_181 0 31 (dk_at dksJ6_init_1 6 rfl rfl)
theorem dJ6_init_33 : decode cJ6_init 33 = .ok (.return_, 1) := dk_177 (dk_at dksJ6_init_1 9 rfl rfl)
abbrev cJ6_init_2 : ByteArray := prog_43_method_1_code
def yJ6_init_2 : MethodName := ⟨RJ6, "<init>", "()V"⟩
def dkwJ6_init_2_1 : List UInt8 := [182, 0, 27, 87, 177]
abbrev dktJ6_init_2_1 : List UInt8 := dkwJ6_init_2_1 ++ []
def dkwJ6_init_2_0 : List UInt8 := [42, 183, 0, 1, 42, 42, 181, 0, 7, 42, 178, 0, 13, 181, 0, 17, 42, 178, 0, 20, 181, 0, 24, 42]
abbrev dktJ6_init_2_0 : List UInt8 := dkwJ6_init_2_0 ++ dktJ6_init_2_1
theorem dksJ6_init_2_0 : cJ6_init_2.data.toList.drop 0 = dktJ6_init_2_0 := by decide +kernel
theorem dksJ6_init_2_1 : cJ6_init_2.data.toList.drop 24 = dktJ6_init_2_1 := dk_seg dksJ6_init_2_0 24 rfl rfl
theorem dJ6_init_2_0 : decode cJ6_init_2 0 = .ok (.aload_n 0, 1) := dk_42 (dk_at dksJ6_init_2_0 0 rfl rfl)
theorem dJ6_init_2_1 : decode cJ6_init_2 1 = .ok (.invokespecial 1, 3) := dk_183 0 1 (dk_at dksJ6_init_2_0 1 rfl rfl)
theorem dJ6_init_2_4 : decode cJ6_init_2 4 = .ok (.aload_n 0, 1) := dk_42 (dk_at dksJ6_init_2_0 4 rfl rfl)
theorem dJ6_init_2_5 : decode cJ6_init_2 5 = .ok (.aload_n 0, 1) := dk_42 (dk_at dksJ6_init_2_0 5 rfl rfl)
theorem dJ6_init_2_6 : decode cJ6_init_2 6 = .ok (.putfield 7, 3) := dk_181 0 7 (dk_at dksJ6_init_2_0 6 rfl rfl)
theorem dJ6_init_2_9 : decode cJ6_init_2 9 = .ok (.aload_n 0, 1) := dk_42 (dk_at dksJ6_init_2_0 9 rfl rfl)
theorem dJ6_init_2_10 : decode cJ6_init_2 10 = .ok (.getstatic 13, 3) := dk_178 0 13 (dk_at dksJ6_init_2_0 10 rfl rfl)
theorem dJ6_init_2_13 : decode cJ6_init_2 13 = .ok (.putfield 17, 3) := dk_181 0 17 (dk_at dksJ6_init_2_0 13 rfl rfl)
theorem dJ6_init_2_16 : decode cJ6_init_2 16 = .ok (.aload_n 0, 1) := dk_42 (dk_at dksJ6_init_2_0 16 rfl rfl)
theorem dJ6_init_2_17 : decode cJ6_init_2 17 = .ok (.getstatic 20, 3) := dk_178 0 20 (dk_at dksJ6_init_2_0 17 rfl rfl)
theorem dJ6_init_2_20 : decode cJ6_init_2 20 = .ok (.putfield 24, 3) := dk_181 0 24 (dk_at dksJ6_init_2_0 20 rfl rfl)
theorem dJ6_init_2_23 : decode cJ6_init_2 23 = .ok (.aload_n 0, 1) := dk_42 (dk_at dksJ6_init_2_0 23 rfl rfl)
theorem dJ6_init_2_24 : decode cJ6_init_2 24 = .ok (.invokevirtual 27, 3) := dk_182 0 27 (dk_at dksJ6_init_2_1 0 rfl rfl)
theorem dJ6_init_2_27 : decode cJ6_init_2 27 = .ok (.pop, 1) := dk_87 (dk_at dksJ6_init_2_1 3 rfl rfl)
theorem dJ6_init_2_28 : decode cJ6_init_2 28 = .ok (.return_, 1) := dk_177 (dk_at dksJ6_init_2_1 4 rfl rfl)
theorem q109 : (Jvm.Cond.initialized "java/lang/Throwable") ∈ lw_all := lw_g (lw_at lw_m1 14 rfl) rfl
theorem q483 : (Jvm.Cond.instanceMethod ({ cls := "java/lang/Throwable", name := "<init>", desc := "(Ljava/lang/String;)V" } : Jvm.MethodName)) ∈ lw_all := lw_g (lw_at lw_m2 148 rfl) rfl
theorem q484 : (Jvm.Cond.code ({ cls := "java/lang/Throwable", name := "<init>", desc := "(Ljava/lang/String;)V" } : Jvm.MethodName) prog_43_method_2_code (2 : Nat) (Option.none : Option Jvm.ClassFile.FieldType)) ∈ lw_all := lw_g (lw_at lw_m2 149 rfl) rfl
theorem q485 : (Jvm.Cond.methodLink "java/lang/Throwable" (1 : Nat) ({ cls := "java/lang/Object", name := "<init>", desc := "()V" } : Jvm.MethodName)) ∈ lw_all := lw_g (lw_at lw_m2 150 rfl) rfl
theorem q486 : (Jvm.Cond.fieldLink "java/lang/Throwable" (13 : Nat) "java/lang/Throwable" "UNASSIGNED_STACK" "[Ljava/lang/StackTraceElement;") ∈ lw_all := lw_g (lw_at lw_m2 151 rfl) rfl
theorem q487 : (Jvm.Cond.laysStatic "java/lang/Throwable" "UNASSIGNED_STACK" "[Ljava/lang/StackTraceElement;") ∈ lw_tbl := lw_at lw_m2 152 rfl
theorem q488 : (Jvm.Cond.fieldLink "java/lang/Throwable" (20 : Nat) "java/lang/Throwable" "SUPPRESSED_SENTINEL" "Ljava/util/List;") ∈ lw_all := lw_g (lw_at lw_m2 153 rfl) rfl
theorem q489 : (Jvm.Cond.laysStatic "java/lang/Throwable" "SUPPRESSED_SENTINEL" "Ljava/util/List;") ∈ lw_tbl := lw_at lw_m2 154 rfl
theorem q490 : (Jvm.Cond.methodLink "java/lang/Throwable" (27 : Nat) ({ cls := "java/lang/Throwable", name := "fillInStackTrace", desc := "()Ljava/lang/Throwable;" } : Jvm.MethodName)) ∈ lw_all := lw_g (lw_at lw_m2 155 rfl) rfl
theorem q491 : (Jvm.Cond.instanceMethod ({ cls := "java/lang/Throwable", name := "fillInStackTrace", desc := "()Ljava/lang/Throwable;" } : Jvm.MethodName)) ∈ lw_all := lw_g (lw_at lw_m2 156 rfl) rfl
theorem q492 : (Jvm.Cond.sameMethod "java/lang/Throwable" "java/lang/Throwable" "fillInStackTrace" "()Ljava/lang/Throwable;") ∈ lw_all := lw_g (lw_at lw_m2 157 rfl) rfl
theorem q497 : (Jvm.Cond.codeSync ({ cls := "java/lang/Throwable", name := "fillInStackTrace", desc := "()Ljava/lang/Throwable;" } : Jvm.MethodName) prog_43_method_18_code (1 : Nat) (Option.some (Jvm.ClassFile.FieldType.object "java/lang/Throwable"))) ∈ lw_all := lw_g (lw_at lw_m2 162 rfl) rfl
theorem q498 : (Jvm.Cond.methodLink "java/lang/Throwable" (202 : Nat) ({ cls := "java/lang/Throwable", name := "fillInStackTrace", desc := "(I)Ljava/lang/Throwable;" } : Jvm.MethodName)) ∈ lw_all := lw_g (lw_at lw_m2 163 rfl) rfl
theorem q499 : (Jvm.Cond.privateMethod ({ cls := "java/lang/Throwable", name := "fillInStackTrace", desc := "(I)Ljava/lang/Throwable;" } : Jvm.MethodName)) ∈ lw_tbl := lw_at lw_m2 164 rfl
theorem q500 : (Jvm.Cond.instanceMethod ({ cls := "java/lang/Throwable", name := "fillInStackTrace", desc := "(I)Ljava/lang/Throwable;" } : Jvm.MethodName)) ∈ lw_all := lw_g (lw_at lw_m2 165 rfl) rfl
theorem q501 : (Jvm.Cond.instantiable "java/lang/Throwable" (6 : Nat)) ∈ lw_all := lw_g (lw_at lw_m2 166 rfl) rfl
theorem q502 : (Jvm.Cond.native ({ cls := "java/lang/Throwable", name := "fillInStackTrace", desc := "(I)Ljava/lang/Throwable;" } : Jvm.MethodName)) ∈ lw_all := lw_g (lw_at lw_m2 167 rfl) rfl
theorem q503 : (Jvm.Cond.fieldLink "java/lang/Throwable" (198 : Nat) "java/lang/Throwable" "backtrace" "Ljava/lang/Object;") ∈ lw_all := lw_g (lw_at lw_m2 168 rfl) rfl
theorem q504 : (Jvm.Cond.fieldLink "java/lang/Throwable" (31 : Nat) "java/lang/Throwable" "detailMessage" "Ljava/lang/String;") ∈ lw_all := lw_g (lw_at lw_m2 169 rfl) rfl
theorem q505 : (Jvm.Cond.fieldLink "java/lang/Throwable" (7 : Nat) "java/lang/Throwable" "cause" "Ljava/lang/Throwable;") ∈ lw_all := lw_g (lw_at lw_m2 170 rfl) rfl
theorem q506 : (Jvm.Cond.fieldLink "java/lang/Throwable" (17 : Nat) "java/lang/Throwable" "stackTrace" "[Ljava/lang/StackTraceElement;") ∈ lw_all := lw_g (lw_at lw_m2 171 rfl) rfl
theorem q507 : (Jvm.Cond.fieldLink "java/lang/Throwable" (24 : Nat) "java/lang/Throwable" "suppressedExceptions" "Ljava/util/List;") ∈ lw_all := lw_g (lw_at lw_m2 172 rfl) rfl
theorem q509 : (Jvm.Cond.soleField "java/lang/Throwable" "backtrace") ∈ lw_all := lw_g (lw_at lw_m2 174 rfl) rfl
theorem q511 : (Jvm.Cond.soleField "java/lang/Throwable" "detailMessage") ∈ lw_all := lw_g (lw_at lw_m2 176 rfl) rfl
theorem q513 : (Jvm.Cond.soleField "java/lang/Throwable" "cause") ∈ lw_all := lw_g (lw_at lw_m2 178 rfl) rfl
theorem q515 : (Jvm.Cond.soleField "java/lang/Throwable" "stackTrace") ∈ lw_all := lw_g (lw_at lw_m2 180 rfl) rfl
theorem q517 : (Jvm.Cond.soleField "java/lang/Throwable" "depth") ∈ lw_all := lw_g (lw_at lw_m2 182 rfl) rfl
theorem q519 : (Jvm.Cond.soleField "java/lang/Throwable" "suppressedExceptions") ∈ lw_all := lw_g (lw_at lw_m2 184 rfl) rfl
theorem q528 : (Jvm.Cond.declares ({ cls := "java/lang/Throwable", name := "<init>", desc := "()V" } : Jvm.MethodName)) ∈ lw_tbl := lw_at lw_m2 193 rfl
theorem q529 : (Jvm.Cond.declares ({ cls := "java/lang/Throwable", name := "<init>", desc := "(Ljava/lang/String;)V" } : Jvm.MethodName)) ∈ lw_tbl := lw_at lw_m2 194 rfl
theorem q531 : (Jvm.Cond.lays "java/lang/Throwable" "java/lang/Throwable" "cause" "Ljava/lang/Throwable;") ∈ lw_all := lw_g (lw_at lw_m2 196 rfl) rfl
theorem q532 : (Jvm.Cond.lays "java/lang/Throwable" "java/lang/Throwable" "stackTrace" "[Ljava/lang/StackTraceElement;") ∈ lw_all := lw_g (lw_at lw_m2 197 rfl) rfl
theorem q533 : (Jvm.Cond.lays "java/lang/Throwable" "java/lang/Throwable" "suppressedExceptions" "Ljava/util/List;") ∈ lw_all := lw_g (lw_at lw_m2 198 rfl) rfl
theorem q534 : (Jvm.Cond.lays "java/lang/Throwable" "java/lang/Throwable" "detailMessage" "Ljava/lang/String;") ∈ lw_all := lw_g (lw_at lw_m2 199 rfl) rfl
theorem q535 : (Jvm.Cond.lays "java/lang/Throwable" "java/lang/Throwable" "backtrace" "Ljava/lang/Object;") ∈ lw_all := lw_g (lw_at lw_m2 200 rfl) rfl
theorem q536 : (Jvm.Cond.fieldLink "java/lang/Throwable" (198 : Nat) "java/lang/Throwable" "backtrace" "Ljava/lang/Object;") ∈ lw_all := lw_g (lw_at lw_m2 201 rfl) rfl
theorem q537 : (Jvm.Cond.superclass "java/lang/Throwable" "java/lang/Object") ∈ lw_all := lw_g (lw_at lw_m2 202 rfl) rfl
theorem q538 : (Jvm.Cond.instanceMethod ({ cls := "java/lang/Throwable", name := "<init>", desc := "()V" } : Jvm.MethodName)) ∈ lw_all := lw_g (lw_at lw_m2 203 rfl) rfl
theorem q539 : (Jvm.Cond.code ({ cls := "java/lang/Throwable", name := "<init>", desc := "()V" } : Jvm.MethodName) prog_43_method_1_code (1 : Nat) (Option.none : Option Jvm.ClassFile.FieldType)) ∈ lw_all := lw_g (lw_at lw_m2 204 rfl) rfl
theorem q2284 : (Jvm.Cond.sameMethod "java/lang/Throwable" "java/lang/Throwable" "fillInStackTrace" "(I)Ljava/lang/Throwable;") ∈ lw_all := lw_g (lw_at lw_m10 29 rfl) rfl
theorem q2328 : (Jvm.Cond.castable "java/lang/Throwable" "java/lang/Object") ∈ lw_tbl := lw_at lw_m10 73 rfl
theorem in_J6 : ∀ w ∈ wsJ60, w ∈ lw_all := lw_in wsJ60 [531, 532, 533, 534, 535] (by decide +kernel) (by decide +kernel)

/-! java/lang/Exception -/
set_option maxRecDepth 100000
def RJ7 : String := "java/lang/Exception"
abbrev cJ7_init : ByteArray := prog_29_method_2_code
def yJ7_init : MethodName := ⟨RJ7, "<init>", "(Ljava/lang/String;)V"⟩
def dkwJ7_init_0 : List UInt8 := [42, 43, 183, 0, 7, 177]
abbrev dktJ7_init_0 : List UInt8 := dkwJ7_init_0 ++ []
theorem dksJ7_init_0 : cJ7_init.data.toList.drop 0 = dktJ7_init_0 := by decide +kernel
theorem dJ7_init_0 : decode cJ7_init 0 = .ok (.aload_n 0, 1) := dk_42 (dk_at dksJ7_init_0 0 rfl rfl)
theorem dJ7_init_1 : decode cJ7_init 1 = .ok (.aload_n 1, 1) := dk_43 (dk_at dksJ7_init_0 1 rfl rfl)
theorem dJ7_init_2 : decode cJ7_init 2 = .ok (.invokespecial 7, 3) := dk_183 0 7 (dk_at dksJ7_init_0 2 rfl rfl)
theorem dJ7_init_5 : decode cJ7_init 5 = .ok (.return_, 1) := dk_177 (dk_at dksJ7_init_0 5 rfl rfl)
abbrev cJ7_init_2 : ByteArray := prog_29_method_1_code
def yJ7_init_2 : MethodName := ⟨RJ7, "<init>", "()V"⟩
theorem dJ7_init_2_0 : decode cJ7_init_2 0 = .ok (.aload_n 0, 1) := by decide +kernel
theorem dJ7_init_2_1 : decode cJ7_init_2 1 = .ok (.invokespecial 1, 3) := by decide +kernel
theorem dJ7_init_2_4 : decode cJ7_init_2 4 = .ok (.return_, 1) := by decide +kernel
theorem q110 : (Jvm.Cond.initialized "java/lang/Exception") ∈ lw_all := lw_g (lw_at lw_m1 15 rfl) rfl
theorem q480 : (Jvm.Cond.instanceMethod ({ cls := "java/lang/Exception", name := "<init>", desc := "(Ljava/lang/String;)V" } : Jvm.MethodName)) ∈ lw_all := lw_g (lw_at lw_m2 145 rfl) rfl
theorem q481 : (Jvm.Cond.code ({ cls := "java/lang/Exception", name := "<init>", desc := "(Ljava/lang/String;)V" } : Jvm.MethodName) prog_29_method_2_code (2 : Nat) (Option.none : Option Jvm.ClassFile.FieldType)) ∈ lw_all := lw_g (lw_at lw_m2 146 rfl) rfl
theorem q482 : (Jvm.Cond.methodLink "java/lang/Exception" (7 : Nat) ({ cls := "java/lang/Throwable", name := "<init>", desc := "(Ljava/lang/String;)V" } : Jvm.MethodName)) ∈ lw_all := lw_g (lw_at lw_m2 147 rfl) rfl
theorem q526 : (Jvm.Cond.declares ({ cls := "java/lang/Exception", name := "<init>", desc := "()V" } : Jvm.MethodName)) ∈ lw_tbl := lw_at lw_m2 191 rfl
theorem q527 : (Jvm.Cond.declares ({ cls := "java/lang/Exception", name := "<init>", desc := "(Ljava/lang/String;)V" } : Jvm.MethodName)) ∈ lw_tbl := lw_at lw_m2 192 rfl
theorem q574 : (Jvm.Cond.instanceMethod ({ cls := "java/lang/Exception", name := "<init>", desc := "()V" } : Jvm.MethodName)) ∈ lw_all := lw_g (lw_at lw_m2 239 rfl) rfl
theorem q575 : (Jvm.Cond.code ({ cls := "java/lang/Exception", name := "<init>", desc := "()V" } : Jvm.MethodName) prog_29_method_1_code (1 : Nat) (Option.none : Option Jvm.ClassFile.FieldType)) ∈ lw_all := lw_g (lw_at lw_m3 0 rfl) rfl
theorem q576 : (Jvm.Cond.methodLink "java/lang/Exception" (1 : Nat) ({ cls := "java/lang/Throwable", name := "<init>", desc := "()V" } : Jvm.MethodName)) ∈ lw_all := lw_g (lw_at lw_m3 1 rfl) rfl

/-! java/lang/RuntimeException -/
set_option maxRecDepth 100000
def RJ8 : String := "java/lang/RuntimeException"
abbrev cJ8_init : ByteArray := prog_37_method_2_code
def yJ8_init : MethodName := ⟨RJ8, "<init>", "(Ljava/lang/String;)V"⟩
def dkwJ8_init_0 : List UInt8 := [42, 43, 183, 0, 7, 177]
abbrev dktJ8_init_0 : List UInt8 := dkwJ8_init_0 ++ []
theorem dksJ8_init_0 : cJ8_init.data.toList.drop 0 = dktJ8_init_0 := by decide +kernel
theorem dJ8_init_0 : decode cJ8_init 0 = .ok (.aload_n 0, 1) := dk_42 (dk_at dksJ8_init_0 0 rfl rfl)
theorem dJ8_init_1 : decode cJ8_init 1 = .ok (.aload_n 1, 1) := dk_43 (dk_at dksJ8_init_0 1 rfl rfl)
theorem dJ8_init_2 : decode cJ8_init 2 = .ok (.invokespecial 7, 3) := dk_183 0 7 (dk_at dksJ8_init_0 2 rfl rfl)
theorem dJ8_init_5 : decode cJ8_init 5 = .ok (.return_, 1) := dk_177 (dk_at dksJ8_init_0 5 rfl rfl)
abbrev cJ8_init_2 : ByteArray := prog_37_method_1_code
def yJ8_init_2 : MethodName := ⟨RJ8, "<init>", "()V"⟩
theorem dJ8_init_2_0 : decode cJ8_init_2 0 = .ok (.aload_n 0, 1) := by decide +kernel
theorem dJ8_init_2_1 : decode cJ8_init_2 1 = .ok (.invokespecial 1, 3) := by decide +kernel
theorem dJ8_init_2_4 : decode cJ8_init_2 4 = .ok (.return_, 1) := by decide +kernel
theorem q111 : (Jvm.Cond.initialized "java/lang/RuntimeException") ∈ lw_all := lw_g (lw_at lw_m1 16 rfl) rfl
theorem q477 : (Jvm.Cond.instanceMethod ({ cls := "java/lang/RuntimeException", name := "<init>", desc := "(Ljava/lang/String;)V" } : Jvm.MethodName)) ∈ lw_all := lw_g (lw_at lw_m2 142 rfl) rfl
theorem q478 : (Jvm.Cond.code ({ cls := "java/lang/RuntimeException", name := "<init>", desc := "(Ljava/lang/String;)V" } : Jvm.MethodName) prog_37_method_2_code (2 : Nat) (Option.none : Option Jvm.ClassFile.FieldType)) ∈ lw_all := lw_g (lw_at lw_m2 143 rfl) rfl
theorem q479 : (Jvm.Cond.methodLink "java/lang/RuntimeException" (7 : Nat) ({ cls := "java/lang/Exception", name := "<init>", desc := "(Ljava/lang/String;)V" } : Jvm.MethodName)) ∈ lw_all := lw_g (lw_at lw_m2 144 rfl) rfl
theorem q524 : (Jvm.Cond.declares ({ cls := "java/lang/RuntimeException", name := "<init>", desc := "()V" } : Jvm.MethodName)) ∈ lw_tbl := lw_at lw_m2 189 rfl
theorem q525 : (Jvm.Cond.declares ({ cls := "java/lang/RuntimeException", name := "<init>", desc := "(Ljava/lang/String;)V" } : Jvm.MethodName)) ∈ lw_tbl := lw_at lw_m2 190 rfl
theorem q571 : (Jvm.Cond.instanceMethod ({ cls := "java/lang/RuntimeException", name := "<init>", desc := "()V" } : Jvm.MethodName)) ∈ lw_all := lw_g (lw_at lw_m2 236 rfl) rfl
theorem q572 : (Jvm.Cond.code ({ cls := "java/lang/RuntimeException", name := "<init>", desc := "()V" } : Jvm.MethodName) prog_37_method_1_code (1 : Nat) (Option.none : Option Jvm.ClassFile.FieldType)) ∈ lw_all := lw_g (lw_at lw_m2 237 rfl) rfl
theorem q573 : (Jvm.Cond.methodLink "java/lang/RuntimeException" (1 : Nat) ({ cls := "java/lang/Exception", name := "<init>", desc := "()V" } : Jvm.MethodName)) ∈ lw_all := lw_g (lw_at lw_m2 238 rfl) rfl

/-! java/lang/IndexOutOfBoundsException -/
set_option maxRecDepth 100000
def RJ9 : String := "java/lang/IndexOutOfBoundsException"
def TJ9 : u_T := fun k => match k with
  | 0 => ("java/lang/Throwable", "cause", "Ljava/lang/Throwable;", false)
  | 1 => ("java/lang/Throwable", "stackTrace", "[Ljava/lang/StackTraceElement;", false)
  | 2 => ("java/lang/Throwable", "suppressedExceptions", "Ljava/util/List;", false)
  | 3 => ("java/lang/Throwable", "detailMessage", "Ljava/lang/String;", false)
  | 4 => ("java/lang/Throwable", "backtrace", "Ljava/lang/Object;", false)
  | _ => ("java/lang/Throwable", "depth", "I", false)
def tyJ9 : Nat → FieldType := fun k => match k with
  | 0 => .object "java/lang/Throwable"
  | 1 => .array (.object "java/lang/StackTraceElement")
  | 2 => .object "java/util/List"
  | 3 => .object "java/lang/String"
  | 4 => .object "java/lang/Object"
  | _ => .int
abbrev wsJ90 : List Cond := u_ws RJ9 TJ9 6
theorem nmJ9 : ∀ a, a < 6 → ∀ b, b < 6 → a ≠ b → (TJ9 a).2.1 ≠ (TJ9 b).2.1 := by decide +kernel
theorem tyJ9_ok : ∀ k, k < 6 → parseFieldDescriptor (TJ9 k).2.2.1 = some (tyJ9 k) := by decide +kernel
abbrev cJ9_init : ByteArray := prog_32_method_2_code
def yJ9_init : MethodName := ⟨RJ9, "<init>", "(Ljava/lang/String;)V"⟩
def dkwJ9_init_0 : List UInt8 := [42, 43, 183, 0, 7, 177]
abbrev dktJ9_init_0 : List UInt8 := dkwJ9_init_0 ++ []
theorem dksJ9_init_0 : cJ9_init.data.toList.drop 0 = dktJ9_init_0 := by decide +kernel
theorem dJ9_init_0 : decode cJ9_init 0 = .ok (.aload_n 0, 1) := dk_42 (dk_at dksJ9_init_0 0 rfl rfl)
theorem dJ9_init_1 : decode cJ9_init 1 = .ok (.aload_n 1, 1) := dk_43 (dk_at dksJ9_init_0 1 rfl rfl)
theorem dJ9_init_2 : decode cJ9_init 2 = .ok (.invokespecial 7, 3) := dk_183 0 7 (dk_at dksJ9_init_0 2 rfl rfl)
theorem dJ9_init_5 : decode cJ9_init 5 = .ok (.return_, 1) := dk_177 (dk_at dksJ9_init_0 5 rfl rfl)
abbrev cJ9_init_2 : ByteArray := prog_32_method_1_code
def yJ9_init_2 : MethodName := ⟨RJ9, "<init>", "()V"⟩
theorem dJ9_init_2_0 : decode cJ9_init_2 0 = .ok (.aload_n 0, 1) := by decide +kernel
theorem dJ9_init_2_1 : decode cJ9_init_2 1 = .ok (.invokespecial 1, 3) := by decide +kernel
theorem dJ9_init_2_4 : decode cJ9_init_2 4 = .ok (.return_, 1) := by decide +kernel
theorem q112 : (Jvm.Cond.initialized "java/lang/IndexOutOfBoundsException") ∈ lw_all := lw_g (lw_at lw_m1 17 rfl) rfl
theorem q382 : (Jvm.Cond.selects "java/lang/IndexOutOfBoundsException" ({ cls := "java/lang/Object", name := "getClass", desc := "()Ljava/lang/Class;" } : Jvm.MethodName) ({ cls := "java/lang/Object", name := "getClass", desc := "()Ljava/lang/Class;" } : Jvm.MethodName)) ∈ lw_all := lw_g (lw_at lw_m2 47 rfl) rfl
theorem q474 : (Jvm.Cond.instanceMethod ({ cls := "java/lang/IndexOutOfBoundsException", name := "<init>", desc := "(Ljava/lang/String;)V" } : Jvm.MethodName)) ∈ lw_all := lw_g (lw_at lw_m2 139 rfl) rfl
theorem q475 : (Jvm.Cond.code ({ cls := "java/lang/IndexOutOfBoundsException", name := "<init>", desc := "(Ljava/lang/String;)V" } : Jvm.MethodName) prog_32_method_2_code (2 : Nat) (Option.none : Option Jvm.ClassFile.FieldType)) ∈ lw_all := lw_g (lw_at lw_m2 140 rfl) rfl
theorem q476 : (Jvm.Cond.methodLink "java/lang/IndexOutOfBoundsException" (7 : Nat) ({ cls := "java/lang/RuntimeException", name := "<init>", desc := "(Ljava/lang/String;)V" } : Jvm.MethodName)) ∈ lw_all := lw_g (lw_at lw_m2 141 rfl) rfl
theorem q496 : (Jvm.Cond.selects "java/lang/IndexOutOfBoundsException" ({ cls := "java/lang/Throwable", name := "fillInStackTrace", desc := "()Ljava/lang/Throwable;" } : Jvm.MethodName) ({ cls := "java/lang/Throwable", name := "fillInStackTrace", desc := "()Ljava/lang/Throwable;" } : Jvm.MethodName)) ∈ lw_all := lw_g (lw_at lw_m2 161 rfl) rfl
theorem q522 : (Jvm.Cond.declares ({ cls := "java/lang/IndexOutOfBoundsException", name := "<init>", desc := "()V" } : Jvm.MethodName)) ∈ lw_tbl := lw_at lw_m2 187 rfl
theorem q523 : (Jvm.Cond.declares ({ cls := "java/lang/IndexOutOfBoundsException", name := "<init>", desc := "(Ljava/lang/String;)V" } : Jvm.MethodName)) ∈ lw_tbl := lw_at lw_m2 188 rfl
theorem q559 : (Jvm.Cond.instantiable "java/lang/IndexOutOfBoundsException" (6 : Nat)) ∈ lw_all := lw_g (lw_at lw_m2 224 rfl) rfl
theorem q560 : (Jvm.Cond.castable "java/lang/IndexOutOfBoundsException" "java/lang/IndexOutOfBoundsException") ∈ lw_tbl := lw_at lw_m2 225 rfl
theorem q561 : (Jvm.Cond.selects "java/lang/IndexOutOfBoundsException" ({ cls := "java/lang/Throwable", name := "fillInStackTrace", desc := "(I)Ljava/lang/Throwable;" } : Jvm.MethodName) ({ cls := "java/lang/Throwable", name := "fillInStackTrace", desc := "(I)Ljava/lang/Throwable;" } : Jvm.MethodName)) ∈ lw_all := lw_g (lw_at lw_m2 226 rfl) rfl
theorem q562 : (Jvm.Cond.lays "java/lang/IndexOutOfBoundsException" "java/lang/Throwable" "cause" "Ljava/lang/Throwable;") ∈ lw_all := lw_g (lw_at lw_m2 227 rfl) rfl
theorem q563 : (Jvm.Cond.lays "java/lang/IndexOutOfBoundsException" "java/lang/Throwable" "stackTrace" "[Ljava/lang/StackTraceElement;") ∈ lw_all := lw_g (lw_at lw_m2 228 rfl) rfl
theorem q564 : (Jvm.Cond.lays "java/lang/IndexOutOfBoundsException" "java/lang/Throwable" "suppressedExceptions" "Ljava/util/List;") ∈ lw_all := lw_g (lw_at lw_m2 229 rfl) rfl
theorem q565 : (Jvm.Cond.lays "java/lang/IndexOutOfBoundsException" "java/lang/Throwable" "detailMessage" "Ljava/lang/String;") ∈ lw_all := lw_g (lw_at lw_m2 230 rfl) rfl
theorem q566 : (Jvm.Cond.lays "java/lang/IndexOutOfBoundsException" "java/lang/Throwable" "backtrace" "Ljava/lang/Object;") ∈ lw_all := lw_g (lw_at lw_m2 231 rfl) rfl
theorem q568 : (Jvm.Cond.instanceMethod ({ cls := "java/lang/IndexOutOfBoundsException", name := "<init>", desc := "()V" } : Jvm.MethodName)) ∈ lw_all := lw_g (lw_at lw_m2 233 rfl) rfl
theorem q569 : (Jvm.Cond.code ({ cls := "java/lang/IndexOutOfBoundsException", name := "<init>", desc := "()V" } : Jvm.MethodName) prog_32_method_1_code (1 : Nat) (Option.none : Option Jvm.ClassFile.FieldType)) ∈ lw_all := lw_g (lw_at lw_m2 234 rfl) rfl
theorem q570 : (Jvm.Cond.methodLink "java/lang/IndexOutOfBoundsException" (1 : Nat) ({ cls := "java/lang/RuntimeException", name := "<init>", desc := "()V" } : Jvm.MethodName)) ∈ lw_all := lw_g (lw_at lw_m2 235 rfl) rfl
theorem q577 : (Jvm.Cond.lays "java/lang/IndexOutOfBoundsException" "java/lang/Throwable" "depth" "I") ∈ lw_all := lw_g (lw_at lw_m3 2 rfl) rfl
theorem q578 : (Jvm.Cond.superclass "java/lang/IndexOutOfBoundsException" "java/lang/RuntimeException") ∈ lw_all := lw_g (lw_at lw_m3 3 rfl) rfl
theorem q2309 : (Jvm.Cond.castable "java/lang/IndexOutOfBoundsException" "java/lang/Object") ∈ lw_tbl := lw_at lw_m10 54 rfl
theorem in_J9 : ∀ w ∈ wsJ90, w ∈ lw_all := lw_in wsJ90 [562, 563, 564, 565, 566, 577] (by decide +kernel) (by decide +kernel)

/-! java/lang/ArrayIndexOutOfBoundsException -/
set_option maxRecDepth 100000
def RJ10 : String := "java/lang/ArrayIndexOutOfBoundsException"
def TJ10 : u_T := fun k => match k with
  | 0 => ("java/lang/Throwable", "backtrace", "Ljava/lang/Object;", false)
  | 1 => ("java/lang/Throwable", "detailMessage", "Ljava/lang/String;", false)
  | 2 => ("java/lang/Throwable", "cause", "Ljava/lang/Throwable;", false)
  | 3 => ("java/lang/Throwable", "stackTrace", "[Ljava/lang/StackTraceElement;", false)
  | 4 => ("java/lang/Throwable", "depth", "I", false)
  | _ => ("java/lang/Throwable", "suppressedExceptions", "Ljava/util/List;", false)
def tyJ10 : Nat → FieldType := fun k => match k with
  | 0 => .object "java/lang/Object"
  | 1 => .object "java/lang/String"
  | 2 => .object "java/lang/Throwable"
  | 3 => .array (.object "java/lang/StackTraceElement")
  | 4 => .int
  | _ => .object "java/util/List"
abbrev wsJ100 : List Cond := u_ws RJ10 TJ10 6
theorem nmJ10 : ∀ a, a < 6 → ∀ b, b < 6 → a ≠ b → (TJ10 a).2.1 ≠ (TJ10 b).2.1 := by decide +kernel
theorem tyJ10_ok : ∀ k, k < 6 → parseFieldDescriptor (TJ10 k).2.2.1 = some (tyJ10 k) := by decide +kernel
abbrev cJ10_init : ByteArray := prog_26_method_2_code
def yJ10_init : MethodName := ⟨RJ10, "<init>", "(Ljava/lang/String;)V"⟩
def dkwJ10_init_0 : List UInt8 := [42, 43, 183, 0, 7, 177]
abbrev dktJ10_init_0 : List UInt8 := dkwJ10_init_0 ++ []
theorem dksJ10_init_0 : cJ10_init.data.toList.drop 0 = dktJ10_init_0 := by decide +kernel
theorem dJ10_init_0 : decode cJ10_init 0 = .ok (.aload_n 0, 1) := dk_42 (dk_at dksJ10_init_0 0 rfl rfl)
theorem dJ10_init_1 : decode cJ10_init 1 = .ok (.aload_n 1, 1) := dk_43 (dk_at dksJ10_init_0 1 rfl rfl)
theorem dJ10_init_2 : decode cJ10_init 2 = .ok (.invokespecial 7, 3) := dk_183 0 7 (dk_at dksJ10_init_0 2 rfl rfl)
theorem dJ10_init_5 : decode cJ10_init 5 = .ok (.return_, 1) := dk_177 (dk_at dksJ10_init_0 5 rfl rfl)
theorem q113 : (Jvm.Cond.initialized "java/lang/ArrayIndexOutOfBoundsException") ∈ lw_all := lw_g (lw_at lw_m1 18 rfl) rfl
theorem q379 : (Jvm.Cond.selects "java/lang/ArrayIndexOutOfBoundsException" ({ cls := "java/lang/Object", name := "getClass", desc := "()Ljava/lang/Class;" } : Jvm.MethodName) ({ cls := "java/lang/Object", name := "getClass", desc := "()Ljava/lang/Class;" } : Jvm.MethodName)) ∈ lw_all := lw_g (lw_at lw_m2 44 rfl) rfl
theorem q470 : (Jvm.Cond.instantiable "java/lang/ArrayIndexOutOfBoundsException" (6 : Nat)) ∈ lw_all := lw_g (lw_at lw_m2 135 rfl) rfl
theorem q471 : (Jvm.Cond.instanceMethod ({ cls := "java/lang/ArrayIndexOutOfBoundsException", name := "<init>", desc := "(Ljava/lang/String;)V" } : Jvm.MethodName)) ∈ lw_all := lw_g (lw_at lw_m2 136 rfl) rfl
theorem q472 : (Jvm.Cond.code ({ cls := "java/lang/ArrayIndexOutOfBoundsException", name := "<init>", desc := "(Ljava/lang/String;)V" } : Jvm.MethodName) prog_26_method_2_code (2 : Nat) (Option.none : Option Jvm.ClassFile.FieldType)) ∈ lw_all := lw_g (lw_at lw_m2 137 rfl) rfl
theorem q473 : (Jvm.Cond.methodLink "java/lang/ArrayIndexOutOfBoundsException" (7 : Nat) ({ cls := "java/lang/IndexOutOfBoundsException", name := "<init>", desc := "(Ljava/lang/String;)V" } : Jvm.MethodName)) ∈ lw_all := lw_g (lw_at lw_m2 138 rfl) rfl
theorem q493 : (Jvm.Cond.selects "java/lang/ArrayIndexOutOfBoundsException" ({ cls := "java/lang/Throwable", name := "fillInStackTrace", desc := "()Ljava/lang/Throwable;" } : Jvm.MethodName) ({ cls := "java/lang/Throwable", name := "fillInStackTrace", desc := "()Ljava/lang/Throwable;" } : Jvm.MethodName)) ∈ lw_all := lw_g (lw_at lw_m2 158 rfl) rfl
theorem q508 : (Jvm.Cond.lays "java/lang/ArrayIndexOutOfBoundsException" "java/lang/Throwable" "backtrace" "Ljava/lang/Object;") ∈ lw_all := lw_g (lw_at lw_m2 173 rfl) rfl
theorem q510 : (Jvm.Cond.lays "java/lang/ArrayIndexOutOfBoundsException" "java/lang/Throwable" "detailMessage" "Ljava/lang/String;") ∈ lw_all := lw_g (lw_at lw_m2 175 rfl) rfl
theorem q512 : (Jvm.Cond.lays "java/lang/ArrayIndexOutOfBoundsException" "java/lang/Throwable" "cause" "Ljava/lang/Throwable;") ∈ lw_all := lw_g (lw_at lw_m2 177 rfl) rfl
theorem q514 : (Jvm.Cond.lays "java/lang/ArrayIndexOutOfBoundsException" "java/lang/Throwable" "stackTrace" "[Ljava/lang/StackTraceElement;") ∈ lw_all := lw_g (lw_at lw_m2 179 rfl) rfl
theorem q516 : (Jvm.Cond.lays "java/lang/ArrayIndexOutOfBoundsException" "java/lang/Throwable" "depth" "I") ∈ lw_all := lw_g (lw_at lw_m2 181 rfl) rfl
theorem q518 : (Jvm.Cond.lays "java/lang/ArrayIndexOutOfBoundsException" "java/lang/Throwable" "suppressedExceptions" "Ljava/util/List;") ∈ lw_all := lw_g (lw_at lw_m2 183 rfl) rfl
theorem q520 : (Jvm.Cond.superclass "java/lang/ArrayIndexOutOfBoundsException" "java/lang/IndexOutOfBoundsException") ∈ lw_all := lw_g (lw_at lw_m2 185 rfl) rfl
theorem q521 : (Jvm.Cond.castable "java/lang/ArrayIndexOutOfBoundsException" "java/lang/ArrayIndexOutOfBoundsException") ∈ lw_tbl := lw_at lw_m2 186 rfl
theorem q530 : (Jvm.Cond.selects "java/lang/ArrayIndexOutOfBoundsException" ({ cls := "java/lang/Throwable", name := "fillInStackTrace", desc := "(I)Ljava/lang/Throwable;" } : Jvm.MethodName) ({ cls := "java/lang/Throwable", name := "fillInStackTrace", desc := "(I)Ljava/lang/Throwable;" } : Jvm.MethodName)) ∈ lw_all := lw_g (lw_at lw_m2 195 rfl) rfl
theorem q2299 : (Jvm.Cond.castable "java/lang/ArrayIndexOutOfBoundsException" "java/lang/IndexOutOfBoundsException") ∈ lw_tbl := lw_at lw_m10 44 rfl
theorem q2308 : (Jvm.Cond.castable "java/lang/ArrayIndexOutOfBoundsException" "java/lang/Object") ∈ lw_tbl := lw_at lw_m10 53 rfl
theorem in_J10 : ∀ w ∈ wsJ100, w ∈ lw_all := lw_in wsJ100 [508, 510, 512, 514, 516, 518] (by decide +kernel) (by decide +kernel)

/-! java/lang/IllegalArgumentException -/
set_option maxRecDepth 100000
def RJ12 : String := "java/lang/IllegalArgumentException"
def TJ12 : u_T := fun k => match k with
  | 0 => ("java/lang/Throwable", "cause", "Ljava/lang/Throwable;", false)
  | 1 => ("java/lang/Throwable", "stackTrace", "[Ljava/lang/StackTraceElement;", false)
  | 2 => ("java/lang/Throwable", "suppressedExceptions", "Ljava/util/List;", false)
  | 3 => ("java/lang/Throwable", "detailMessage", "Ljava/lang/String;", false)
  | 4 => ("java/lang/Throwable", "backtrace", "Ljava/lang/Object;", false)
  | _ => ("java/lang/Throwable", "depth", "I", false)
def tyJ12 : Nat → FieldType := fun k => match k with
  | 0 => .object "java/lang/Throwable"
  | 1 => .array (.object "java/lang/StackTraceElement")
  | 2 => .object "java/util/List"
  | 3 => .object "java/lang/String"
  | 4 => .object "java/lang/Object"
  | _ => .int
abbrev wsJ120 : List Cond := u_ws RJ12 TJ12 6
theorem nmJ12 : ∀ a, a < 6 → ∀ b, b < 6 → a ≠ b → (TJ12 a).2.1 ≠ (TJ12 b).2.1 := by decide +kernel
theorem tyJ12_ok : ∀ k, k < 6 → parseFieldDescriptor (TJ12 k).2.2.1 = some (tyJ12 k) := by decide +kernel
abbrev cJ12_init : ByteArray := prog_30_method_1_code
def yJ12_init : MethodName := ⟨RJ12, "<init>", "()V"⟩
theorem dJ12_init_0 : decode cJ12_init 0 = .ok (.aload_n 0, 1) := by decide +kernel
theorem dJ12_init_1 : decode cJ12_init 1 = .ok (.invokespecial 1, 3) := by decide +kernel
theorem dJ12_init_4 : decode cJ12_init 4 = .ok (.return_, 1) := by decide +kernel
abbrev cJ12_init_2 : ByteArray := prog_30_method_2_code
def yJ12_init_2 : MethodName := ⟨RJ12, "<init>", "(Ljava/lang/String;)V"⟩
def dkwJ12_init_2_0 : List UInt8 := [42, 43, 183, 0, 7, 177]
abbrev dktJ12_init_2_0 : List UInt8 := dkwJ12_init_2_0 ++ []
theorem dksJ12_init_2_0 : cJ12_init_2.data.toList.drop 0 = dktJ12_init_2_0 := by decide +kernel
theorem dJ12_init_2_0 : decode cJ12_init_2 0 = .ok (.aload_n 0, 1) := dk_42 (dk_at dksJ12_init_2_0 0 rfl rfl)
theorem dJ12_init_2_1 : decode cJ12_init_2 1 = .ok (.aload_n 1, 1) := dk_43 (dk_at dksJ12_init_2_0 1 rfl rfl)
theorem dJ12_init_2_2 : decode cJ12_init_2 2 = .ok (.invokespecial 7, 3) := dk_183 0 7 (dk_at dksJ12_init_2_0 2 rfl rfl)
theorem dJ12_init_2_5 : decode cJ12_init_2 5 = .ok (.return_, 1) := dk_177 (dk_at dksJ12_init_2_0 5 rfl rfl)
theorem q115 : (Jvm.Cond.initialized "java/lang/IllegalArgumentException") ∈ lw_all := lw_g (lw_at lw_m1 20 rfl) rfl
theorem q380 : (Jvm.Cond.selects "java/lang/IllegalArgumentException" ({ cls := "java/lang/Object", name := "getClass", desc := "()Ljava/lang/Class;" } : Jvm.MethodName) ({ cls := "java/lang/Object", name := "getClass", desc := "()Ljava/lang/Class;" } : Jvm.MethodName)) ∈ lw_all := lw_g (lw_at lw_m2 45 rfl) rfl
theorem q494 : (Jvm.Cond.selects "java/lang/IllegalArgumentException" ({ cls := "java/lang/Throwable", name := "fillInStackTrace", desc := "()Ljava/lang/Throwable;" } : Jvm.MethodName) ({ cls := "java/lang/Throwable", name := "fillInStackTrace", desc := "()Ljava/lang/Throwable;" } : Jvm.MethodName)) ∈ lw_all := lw_g (lw_at lw_m2 159 rfl) rfl
theorem q589 : (Jvm.Cond.instantiable "java/lang/IllegalArgumentException" (6 : Nat)) ∈ lw_all := lw_g (lw_at lw_m3 14 rfl) rfl
theorem q590 : (Jvm.Cond.castable "java/lang/IllegalArgumentException" "java/lang/IllegalArgumentException") ∈ lw_tbl := lw_at lw_m3 15 rfl
theorem q591 : (Jvm.Cond.selects "java/lang/IllegalArgumentException" ({ cls := "java/lang/Throwable", name := "fillInStackTrace", desc := "(I)Ljava/lang/Throwable;" } : Jvm.MethodName) ({ cls := "java/lang/Throwable", name := "fillInStackTrace", desc := "(I)Ljava/lang/Throwable;" } : Jvm.MethodName)) ∈ lw_all := lw_g (lw_at lw_m3 16 rfl) rfl
theorem q592 : (Jvm.Cond.lays "java/lang/IllegalArgumentException" "java/lang/Throwable" "cause" "Ljava/lang/Throwable;") ∈ lw_all := lw_g (lw_at lw_m3 17 rfl) rfl
theorem q593 : (Jvm.Cond.lays "java/lang/IllegalArgumentException" "java/lang/Throwable" "stackTrace" "[Ljava/lang/StackTraceElement;") ∈ lw_all := lw_g (lw_at lw_m3 18 rfl) rfl
theorem q594 : (Jvm.Cond.lays "java/lang/IllegalArgumentException" "java/lang/Throwable" "suppressedExceptions" "Ljava/util/List;") ∈ lw_all := lw_g (lw_at lw_m3 19 rfl) rfl
theorem q595 : (Jvm.Cond.lays "java/lang/IllegalArgumentException" "java/lang/Throwable" "detailMessage" "Ljava/lang/String;") ∈ lw_all := lw_g (lw_at lw_m3 20 rfl) rfl
theorem q596 : (Jvm.Cond.lays "java/lang/IllegalArgumentException" "java/lang/Throwable" "backtrace" "Ljava/lang/Object;") ∈ lw_all := lw_g (lw_at lw_m3 21 rfl) rfl
theorem q598 : (Jvm.Cond.instanceMethod ({ cls := "java/lang/IllegalArgumentException", name := "<init>", desc := "()V" } : Jvm.MethodName)) ∈ lw_all := lw_g (lw_at lw_m3 23 rfl) rfl
theorem q599 : (Jvm.Cond.code ({ cls := "java/lang/IllegalArgumentException", name := "<init>", desc := "()V" } : Jvm.MethodName) prog_30_method_1_code (1 : Nat) (Option.none : Option Jvm.ClassFile.FieldType)) ∈ lw_all := lw_g (lw_at lw_m3 24 rfl) rfl
theorem q600 : (Jvm.Cond.methodLink "java/lang/IllegalArgumentException" (1 : Nat) ({ cls := "java/lang/RuntimeException", name := "<init>", desc := "()V" } : Jvm.MethodName)) ∈ lw_all := lw_g (lw_at lw_m3 25 rfl) rfl
theorem q601 : (Jvm.Cond.lays "java/lang/IllegalArgumentException" "java/lang/Throwable" "depth" "I") ∈ lw_all := lw_g (lw_at lw_m3 26 rfl) rfl
theorem q602 : (Jvm.Cond.superclass "java/lang/IllegalArgumentException" "java/lang/RuntimeException") ∈ lw_all := lw_g (lw_at lw_m3 27 rfl) rfl
theorem q1317 : (Jvm.Cond.instanceMethod ({ cls := "java/lang/IllegalArgumentException", name := "<init>", desc := "(Ljava/lang/String;)V" } : Jvm.MethodName)) ∈ lw_all := lw_g (lw_at lw_m6 22 rfl) rfl
theorem q1318 : (Jvm.Cond.code ({ cls := "java/lang/IllegalArgumentException", name := "<init>", desc := "(Ljava/lang/String;)V" } : Jvm.MethodName) prog_30_method_2_code (2 : Nat) (Option.none : Option Jvm.ClassFile.FieldType)) ∈ lw_all := lw_g (lw_at lw_m6 23 rfl) rfl
theorem q1319 : (Jvm.Cond.methodLink "java/lang/IllegalArgumentException" (7 : Nat) ({ cls := "java/lang/RuntimeException", name := "<init>", desc := "(Ljava/lang/String;)V" } : Jvm.MethodName)) ∈ lw_all := lw_g (lw_at lw_m6 24 rfl) rfl
theorem q2310 : (Jvm.Cond.castable "java/lang/IllegalArgumentException" "java/lang/Object") ∈ lw_tbl := lw_at lw_m10 55 rfl
theorem in_J12 : ∀ w ∈ wsJ120, w ∈ lw_all := lw_in wsJ120 [592, 593, 594, 595, 596, 601] (by decide +kernel) (by decide +kernel)

/-! java/util/Objects -/
set_option maxRecDepth 100000
def RJ13 : String := "java/util/Objects"
abbrev cJ13_checkIndex : ByteArray := prog_50_method_17_code
def yJ13_checkIndex : MethodName := ⟨RJ13, "checkIndex", "(II)I"⟩
def dkwJ13_checkIndex_0 : List UInt8 := [26, 27, 1, 184, 0, 105, 172]
abbrev dktJ13_checkIndex_0 : List UInt8 := dkwJ13_checkIndex_0 ++ []
theorem dksJ13_checkIndex_0 : cJ13_checkIndex.data.toList.drop 0 = dktJ13_checkIndex_0 := by decide +kernel
theorem dJ13_checkIndex_0 : decode cJ13_checkIndex 0 = .ok (.iload_n 0, 1) := dk_26 (dk_at dksJ13_checkIndex_0 0 rfl rfl)
theorem dJ13_checkIndex_1 : decode cJ13_checkIndex 1 = .ok (.iload_n 1, 1) := dk_27 (dk_at dksJ13_checkIndex_0 1 rfl rfl)
theorem dJ13_checkIndex_2 : decode cJ13_checkIndex 2 = .ok (.aconst_null, 1) := dk_1 (dk_at dksJ13_checkIndex_0 2 rfl rfl)
theorem dJ13_checkIndex_3 : decode cJ13_checkIndex 3 = .ok (.invokestatic 105, 3) := dk_184 0 105 (dk_at dksJ13_checkIndex_0 3 rfl rfl)
theorem dJ13_checkIndex_6 : decode cJ13_checkIndex 6 = .ok (.ireturn, 1) := dk_172 (dk_at dksJ13_checkIndex_0 6 rfl rfl)
theorem q116 : (Jvm.Cond.initialized "java/util/Objects") ∈ lw_all := lw_g (lw_at lw_m1 21 rfl) rfl
theorem q608 : (Jvm.Cond.static ({ cls := "java/util/Objects", name := "checkIndex", desc := "(II)I" } : Jvm.MethodName)) ∈ lw_all := lw_g (lw_at lw_m3 33 rfl) rfl
theorem q609 : (Jvm.Cond.code ({ cls := "java/util/Objects", name := "checkIndex", desc := "(II)I" } : Jvm.MethodName) prog_50_method_17_code (2 : Nat) (Option.some Jvm.ClassFile.FieldType.int)) ∈ lw_all := lw_g (lw_at lw_m3 34 rfl) rfl
theorem q610 : (Jvm.Cond.methodLink "java/util/Objects" (105 : Nat) ({ cls := "jdk/internal/util/Preconditions", name := "checkIndex", desc := "(IILjava/util/function/BiFunction;)I" } : Jvm.MethodName)) ∈ lw_all := lw_g (lw_at lw_m3 35 rfl) rfl

/-! jdk/internal/util/Preconditions -/
set_option maxRecDepth 100000
def RJ14 : String := "jdk/internal/util/Preconditions"
abbrev cJ14_checkIndex : ByteArray := prog_54_method_11_code
def yJ14_checkIndex : MethodName := ⟨RJ14, "checkIndex", "(IILjava/util/function/BiFunction;)I"⟩
def dkwJ14_checkIndex_0 : List UInt8 := [26, 155, 0, 8, 26, 27, 161, 0, 10, 44, 26, 27, 184, 0, 95, 191, 26, 172]
abbrev dktJ14_checkIndex_0 : List UInt8 := dkwJ14_checkIndex_0 ++ []
theorem dksJ14_checkIndex_0 : cJ14_checkIndex.data.toList.drop 0 = dktJ14_checkIndex_0 := by decide +kernel
theorem dJ14_checkIndex_0 : decode cJ14_checkIndex 0 = .ok (.iload_n 0, 1) := dk_26 (dk_at dksJ14_checkIndex_0 0 rfl rfl)
theorem dJ14_checkIndex_1 : decode cJ14_checkIndex 1 = .ok (.ifCond .lt 8, 3) := dk_155 0 8 (dk_at dksJ14_checkIndex_0 1 rfl rfl)
theorem dJ14_checkIndex_4 : decode cJ14_checkIndex 4 = .ok (.iload_n 0, 1) := dk_26 (dk_at dksJ14_checkIndex_0 4 rfl rfl)
theorem dJ14_checkIndex_5 : decode cJ14_checkIndex 5 = .ok (.iload_n 1, 1) := dk_27 (dk_at dksJ14_checkIndex_0 5 rfl rfl)
theorem dJ14_checkIndex_6 : decode cJ14_checkIndex 6 = .ok (.if_icmp .lt 10, 3) := dk_161 0 10 (dk_at dksJ14_checkIndex_0 6 rfl rfl)
theorem dJ14_checkIndex_9 : decode cJ14_checkIndex 9 = .ok (.aload_n 2, 1) := dk_44 (dk_at dksJ14_checkIndex_0 9 rfl rfl)
theorem dJ14_checkIndex_10 : decode cJ14_checkIndex 10 = .ok (.iload_n 0, 1) := dk_26 (dk_at dksJ14_checkIndex_0 10 rfl rfl)
theorem dJ14_checkIndex_11 : decode cJ14_checkIndex 11 = .ok (.iload_n 1, 1) := dk_27 (dk_at dksJ14_checkIndex_0 11 rfl rfl)
theorem dJ14_checkIndex_12 : decode cJ14_checkIndex 12 = .ok (.invokestatic 95, 3) := dk_184 0 95 (dk_at dksJ14_checkIndex_0 12 rfl rfl)
theorem dJ14_checkIndex_15 : decode cJ14_checkIndex 15 = .ok (.athrow, 1) := dk_191 (dk_at dksJ14_checkIndex_0 15 rfl rfl)
theorem dJ14_checkIndex_16 : decode cJ14_checkIndex 16 = .ok (.iload_n 0, 1) := dk_26 (dk_at dksJ14_checkIndex_0 16 rfl rfl)
theorem dJ14_checkIndex_17 : decode cJ14_checkIndex 17 = .ok (.ireturn, 1) := dk_172 (dk_at dksJ14_checkIndex_0 17 rfl rfl)
abbrev cJ14_checkFromToIndex : ByteArray := prog_54_method_12_code
def yJ14_checkFromToIndex : MethodName := ⟨RJ14, "checkFromToIndex", "(IIILjava/util/function/BiFunction;)I"⟩
def dkwJ14_checkFromToIndex_0 : List UInt8 := [26, 155, 0, 13, 26, 27, 163, 0, 8, 27, 28, 164, 0, 11, 45, 26, 27, 28, 184, 0, 99, 191, 26, 172]
abbrev dktJ14_checkFromToIndex_0 : List UInt8 := dkwJ14_checkFromToIndex_0 ++ []
theorem dksJ14_checkFromToIndex_0 : cJ14_checkFromToIndex.data.toList.drop 0 = dktJ14_checkFromToIndex_0 := by decide +kernel
theorem dJ14_checkFromToIndex_0 : decode cJ14_checkFromToIndex 0 = .ok (.iload_n 0, 1) := dk_26 (dk_at dksJ14_checkFromToIndex_0 0 rfl rfl)
theorem dJ14_checkFromToIndex_1 : decode cJ14_checkFromToIndex 1 = .ok (.ifCond .lt 13, 3) := dk_155 0 13 (dk_at dksJ14_checkFromToIndex_0 1 rfl rfl)
theorem dJ14_checkFromToIndex_4 : decode cJ14_checkFromToIndex 4 = .ok (.iload_n 0, 1) := dk_26 (dk_at dksJ14_checkFromToIndex_0 4 rfl rfl)
theorem dJ14_checkFromToIndex_5 : decode cJ14_checkFromToIndex 5 = .ok (.iload_n 1, 1) := dk_27 (dk_at dksJ14_checkFromToIndex_0 5 rfl rfl)
theorem dJ14_checkFromToIndex_6 : decode cJ14_checkFromToIndex 6 = .ok (.if_icmp .gt 8, 3) := dk_163 0 8 (dk_at dksJ14_checkFromToIndex_0 6 rfl rfl)
theorem dJ14_checkFromToIndex_9 : decode cJ14_checkFromToIndex 9 = .ok (.iload_n 1, 1) := dk_27 (dk_at dksJ14_checkFromToIndex_0 9 rfl rfl)
theorem dJ14_checkFromToIndex_10 : decode cJ14_checkFromToIndex 10 = .ok (.iload_n 2, 1) := dk_28 (dk_at dksJ14_checkFromToIndex_0 10 rfl rfl)
theorem dJ14_checkFromToIndex_11 : decode cJ14_checkFromToIndex 11 = .ok (.if_icmp .le 11, 3) := dk_164 0 11 (dk_at dksJ14_checkFromToIndex_0 11 rfl rfl)
theorem dJ14_checkFromToIndex_14 : decode cJ14_checkFromToIndex 14 = .ok (.aload_n 3, 1) := dk_45 (dk_at dksJ14_checkFromToIndex_0 14 rfl rfl)
theorem dJ14_checkFromToIndex_15 : decode cJ14_checkFromToIndex 15 = .ok (.iload_n 0, 1) := dk_26 (dk_at dksJ14_checkFromToIndex_0 15 rfl rfl)
theorem dJ14_checkFromToIndex_16 : decode cJ14_checkFromToIndex 16 = .ok (.iload_n 1, 1) := dk_27 (dk_at dksJ14_checkFromToIndex_0 16 rfl rfl)
theorem dJ14_checkFromToIndex_17 : decode cJ14_checkFromToIndex 17 = .ok (.iload_n 2, 1) := dk_28 (dk_at dksJ14_checkFromToIndex_0 17 rfl rfl)
theorem dJ14_checkFromToIndex_18 : decode cJ14_checkFromToIndex 18 = .ok (.invokestatic 99, 3) := dk_184 0 99 (dk_at dksJ14_checkFromToIndex_0 18 rfl rfl)
theorem dJ14_checkFromToIndex_21 : decode cJ14_checkFromToIndex 21 = .ok (.athrow, 1) := dk_191 (dk_at dksJ14_checkFromToIndex_0 21 rfl rfl)
theorem dJ14_checkFromToIndex_22 : decode cJ14_checkFromToIndex 22 = .ok (.iload_n 0, 1) := dk_26 (dk_at dksJ14_checkFromToIndex_0 22 rfl rfl)
theorem dJ14_checkFromToIndex_23 : decode cJ14_checkFromToIndex 23 = .ok (.ireturn, 1) := dk_172 (dk_at dksJ14_checkFromToIndex_0 23 rfl rfl)
abbrev cJ14_checkFromIndexSize : ByteArray := prog_54_method_13_code
def yJ14_checkFromIndexSize : MethodName := ⟨RJ14, "checkFromIndexSize", "(IIILjava/util/function/BiFunction;)I"⟩
def dkwJ14_checkFromIndexSize_1 : List UInt8 := [172]
abbrev dktJ14_checkFromIndexSize_1 : List UInt8 := dkwJ14_checkFromIndexSize_1 ++ []
def dkwJ14_checkFromIndexSize_0 : List UInt8 := [28, 26, 128, 27, 128, 155, 0, 10, 27, 28, 26, 100, 164, 0, 11, 45, 26, 27, 28, 184, 0, 103, 191, 26]
abbrev dktJ14_checkFromIndexSize_0 : List UInt8 := dkwJ14_checkFromIndexSize_0 ++ dktJ14_checkFromIndexSize_1
theorem dksJ14_checkFromIndexSize_0 : cJ14_checkFromIndexSize.data.toList.drop 0 = dktJ14_checkFromIndexSize_0 := by decide +kernel
theorem dksJ14_checkFromIndexSize_1 : cJ14_checkFromIndexSize.data.toList.drop 24 = dktJ14_checkFromIndexSize_1 := dk_seg dksJ14_checkFromIndexSize_0 24 rfl rfl
theorem dJ14_checkFromIndexSize_0 : decode cJ14_checkFromIndexSize 0 = .ok (.iload_n 2, 1) := dk_28 (dk_at dksJ14_checkFromIndexSize_0 0 rfl rfl)
theorem dJ14_checkFromIndexSize_1 : decode cJ14_checkFromIndexSize 1 = .ok (.iload_n 0, 1) := dk_26 (dk_at dksJ14_checkFromIndexSize_0 1 rfl rfl)
theorem dJ14_checkFromIndexSize_2 : decode cJ14_checkFromIndexSize 2 = .ok (.ior, 1) := dk_128 (dk_at dksJ14_checkFromIndexSize_0 2 rfl rfl)
theorem dJ14_checkFromIndexSize_3 : decode cJ14_checkFromIndexSize 3 = .ok (.iload_n 1, 1) := dk_27 (dk_at dksJ14_checkFromIndexSize_0 3 rfl rfl)
theorem dJ14_checkFromIndexSize_4 : decode cJ14_checkFromIndexSize 4 = .ok (.ior, 1) := dk_128 (dk_at dksJ14_checkFromIndexSize_0 4 rfl rfl)
theorem dJ14_checkFromIndexSize_5 : decode cJ14_checkFromIndexSize 5 = .ok (.ifCond .lt 10, 3) := dk_155 0 10 (dk_at dksJ14_checkFromIndexSize_0 5 rfl rfl)
theorem dJ14_checkFromIndexSize_8 : decode cJ14_checkFromIndexSize 8 = .ok (.iload_n 1, 1) := dk_27 (dk_at dksJ14_checkFromIndexSize_0 8 rfl rfl)
theorem dJ14_checkFromIndexSize_9 : decode cJ14_checkFromIndexSize 9 = .ok (.iload_n 2, 1) := dk_28 (dk_at dksJ14_checkFromIndexSize_0 9 rfl rfl)
theorem dJ14_checkFromIndexSize_10 : decode cJ14_checkFromIndexSize 10 = .ok (.iload_n 0, 1) := dk_26 (dk_at dksJ14_checkFromIndexSize_0 10 rfl rfl)
theorem dJ14_checkFromIndexSize_11 : decode cJ14_checkFromIndexSize 11 = .ok (.isub, 1) := dk_100 (dk_at dksJ14_checkFromIndexSize_0 11 rfl rfl)
theorem dJ14_checkFromIndexSize_12 : decode cJ14_checkFromIndexSize 12 = .ok (.if_icmp .le 11, 3) := dk_164 0 11 (dk_at dksJ14_checkFromIndexSize_0 12 rfl rfl)
theorem dJ14_checkFromIndexSize_15 : decode cJ14_checkFromIndexSize 15 = .ok (.aload_n 3, 1) := dk_45 (dk_at dksJ14_checkFromIndexSize_0 15 rfl rfl)
theorem dJ14_checkFromIndexSize_16 : decode cJ14_checkFromIndexSize 16 = .ok (.iload_n 0, 1) := dk_26 (dk_at dksJ14_checkFromIndexSize_0 16 rfl rfl)
theorem dJ14_checkFromIndexSize_17 : decode cJ14_checkFromIndexSize 17 = .ok (.iload_n 1, 1) := dk_27 (dk_at dksJ14_checkFromIndexSize_0 17 rfl rfl)
theorem dJ14_checkFromIndexSize_18 : decode cJ14_checkFromIndexSize 18 = .ok (.iload_n 2, 1) := dk_28 (dk_at dksJ14_checkFromIndexSize_0 18 rfl rfl)
theorem dJ14_checkFromIndexSize_19 : decode cJ14_checkFromIndexSize 19 = .ok (.invokestatic 103, 3) := dk_184 0 103 (dk_at dksJ14_checkFromIndexSize_0 19 rfl rfl)
theorem dJ14_checkFromIndexSize_22 : decode cJ14_checkFromIndexSize 22 = .ok (.athrow, 1) := dk_191 (dk_at dksJ14_checkFromIndexSize_0 22 rfl rfl)
theorem dJ14_checkFromIndexSize_23 : decode cJ14_checkFromIndexSize 23 = .ok (.iload_n 0, 1) := dk_26 (dk_at dksJ14_checkFromIndexSize_0 23 rfl rfl)
theorem dJ14_checkFromIndexSize_24 : decode cJ14_checkFromIndexSize 24 = .ok (.ireturn, 1) := dk_172 (dk_at dksJ14_checkFromIndexSize_1 0 rfl rfl)
theorem q117 : (Jvm.Cond.initialized "jdk/internal/util/Preconditions") ∈ lw_all := lw_g (lw_at lw_m1 22 rfl) rfl
theorem q611 : (Jvm.Cond.static ({ cls := "jdk/internal/util/Preconditions", name := "checkIndex", desc := "(IILjava/util/function/BiFunction;)I" } : Jvm.MethodName)) ∈ lw_all := lw_g (lw_at lw_m3 36 rfl) rfl
theorem q612 : (Jvm.Cond.code ({ cls := "jdk/internal/util/Preconditions", name := "checkIndex", desc := "(IILjava/util/function/BiFunction;)I" } : Jvm.MethodName) prog_54_method_11_code (3 : Nat) (Option.some Jvm.ClassFile.FieldType.int)) ∈ lw_all := lw_g (lw_at lw_m3 37 rfl) rfl
theorem q1192 : (Jvm.Cond.laysStatic "jdk/internal/util/Preconditions" "SIOOBE_FORMATTER" "Ljava/util/function/BiFunction;") ∈ lw_tbl := lw_at lw_m5 137 rfl
theorem q1194 : (Jvm.Cond.static ({ cls := "jdk/internal/util/Preconditions", name := "checkFromToIndex", desc := "(IIILjava/util/function/BiFunction;)I" } : Jvm.MethodName)) ∈ lw_all := lw_g (lw_at lw_m5 139 rfl) rfl
theorem q1195 : (Jvm.Cond.code ({ cls := "jdk/internal/util/Preconditions", name := "checkFromToIndex", desc := "(IIILjava/util/function/BiFunction;)I" } : Jvm.MethodName) prog_54_method_12_code (4 : Nat) (Option.some Jvm.ClassFile.FieldType.int)) ∈ lw_all := lw_g (lw_at lw_m5 140 rfl) rfl
theorem q1240 : (Jvm.Cond.static ({ cls := "jdk/internal/util/Preconditions", name := "checkFromIndexSize", desc := "(IIILjava/util/function/BiFunction;)I" } : Jvm.MethodName)) ∈ lw_all := lw_g (lw_at lw_m5 185 rfl) rfl
theorem q1241 : (Jvm.Cond.code ({ cls := "jdk/internal/util/Preconditions", name := "checkFromIndexSize", desc := "(IIILjava/util/function/BiFunction;)I" } : Jvm.MethodName) prog_54_method_13_code (4 : Nat) (Option.some Jvm.ClassFile.FieldType.int)) ∈ lw_all := lw_g (lw_at lw_m5 186 rfl) rfl

/-! java/lang/IllegalStateException -/
set_option maxRecDepth 100000
def RJ15 : String := "java/lang/IllegalStateException"
def TJ15 : u_T := fun k => match k with
  | 0 => ("java/lang/Throwable", "cause", "Ljava/lang/Throwable;", false)
  | 1 => ("java/lang/Throwable", "stackTrace", "[Ljava/lang/StackTraceElement;", false)
  | 2 => ("java/lang/Throwable", "suppressedExceptions", "Ljava/util/List;", false)
  | 3 => ("java/lang/Throwable", "detailMessage", "Ljava/lang/String;", false)
  | 4 => ("java/lang/Throwable", "backtrace", "Ljava/lang/Object;", false)
  | _ => ("java/lang/Throwable", "depth", "I", false)
def tyJ15 : Nat → FieldType := fun k => match k with
  | 0 => .object "java/lang/Throwable"
  | 1 => .array (.object "java/lang/StackTraceElement")
  | 2 => .object "java/util/List"
  | 3 => .object "java/lang/String"
  | 4 => .object "java/lang/Object"
  | _ => .int
abbrev wsJ150 : List Cond := u_ws RJ15 TJ15 6
theorem nmJ15 : ∀ a, a < 6 → ∀ b, b < 6 → a ≠ b → (TJ15 a).2.1 ≠ (TJ15 b).2.1 := by decide +kernel
theorem tyJ15_ok : ∀ k, k < 6 → parseFieldDescriptor (TJ15 k).2.2.1 = some (tyJ15 k) := by decide +kernel
abbrev cJ15_init : ByteArray := prog_31_method_1_code
def yJ15_init : MethodName := ⟨RJ15, "<init>", "()V"⟩
theorem dJ15_init_0 : decode cJ15_init 0 = .ok (.aload_n 0, 1) := by decide +kernel
theorem dJ15_init_1 : decode cJ15_init 1 = .ok (.invokespecial 1, 3) := by decide +kernel
theorem dJ15_init_4 : decode cJ15_init 4 = .ok (.return_, 1) := by decide +kernel
theorem q118 : (Jvm.Cond.initialized "java/lang/IllegalStateException") ∈ lw_all := lw_g (lw_at lw_m1 23 rfl) rfl
theorem q381 : (Jvm.Cond.selects "java/lang/IllegalStateException" ({ cls := "java/lang/Object", name := "getClass", desc := "()Ljava/lang/Class;" } : Jvm.MethodName) ({ cls := "java/lang/Object", name := "getClass", desc := "()Ljava/lang/Class;" } : Jvm.MethodName)) ∈ lw_all := lw_g (lw_at lw_m2 46 rfl) rfl
theorem q495 : (Jvm.Cond.selects "java/lang/IllegalStateException" ({ cls := "java/lang/Throwable", name := "fillInStackTrace", desc := "()Ljava/lang/Throwable;" } : Jvm.MethodName) ({ cls := "java/lang/Throwable", name := "fillInStackTrace", desc := "()Ljava/lang/Throwable;" } : Jvm.MethodName)) ∈ lw_all := lw_g (lw_at lw_m2 160 rfl) rfl
theorem q625 : (Jvm.Cond.instantiable "java/lang/IllegalStateException" (6 : Nat)) ∈ lw_all := lw_g (lw_at lw_m3 50 rfl) rfl
theorem q626 : (Jvm.Cond.castable "java/lang/IllegalStateException" "java/lang/IllegalStateException") ∈ lw_tbl := lw_at lw_m3 51 rfl
theorem q627 : (Jvm.Cond.selects "java/lang/IllegalStateException" ({ cls := "java/lang/Throwable", name := "fillInStackTrace", desc := "(I)Ljava/lang/Throwable;" } : Jvm.MethodName) ({ cls := "java/lang/Throwable", name := "fillInStackTrace", desc := "(I)Ljava/lang/Throwable;" } : Jvm.MethodName)) ∈ lw_all := lw_g (lw_at lw_m3 52 rfl) rfl
theorem q628 : (Jvm.Cond.lays "java/lang/IllegalStateException" "java/lang/Throwable" "cause" "Ljava/lang/Throwable;") ∈ lw_all := lw_g (lw_at lw_m3 53 rfl) rfl
theorem q629 : (Jvm.Cond.lays "java/lang/IllegalStateException" "java/lang/Throwable" "stackTrace" "[Ljava/lang/StackTraceElement;") ∈ lw_all := lw_g (lw_at lw_m3 54 rfl) rfl
theorem q630 : (Jvm.Cond.lays "java/lang/IllegalStateException" "java/lang/Throwable" "suppressedExceptions" "Ljava/util/List;") ∈ lw_all := lw_g (lw_at lw_m3 55 rfl) rfl
theorem q631 : (Jvm.Cond.lays "java/lang/IllegalStateException" "java/lang/Throwable" "detailMessage" "Ljava/lang/String;") ∈ lw_all := lw_g (lw_at lw_m3 56 rfl) rfl
theorem q632 : (Jvm.Cond.lays "java/lang/IllegalStateException" "java/lang/Throwable" "backtrace" "Ljava/lang/Object;") ∈ lw_all := lw_g (lw_at lw_m3 57 rfl) rfl
theorem q634 : (Jvm.Cond.instanceMethod ({ cls := "java/lang/IllegalStateException", name := "<init>", desc := "()V" } : Jvm.MethodName)) ∈ lw_all := lw_g (lw_at lw_m3 59 rfl) rfl
theorem q635 : (Jvm.Cond.code ({ cls := "java/lang/IllegalStateException", name := "<init>", desc := "()V" } : Jvm.MethodName) prog_31_method_1_code (1 : Nat) (Option.none : Option Jvm.ClassFile.FieldType)) ∈ lw_all := lw_g (lw_at lw_m3 60 rfl) rfl
theorem q636 : (Jvm.Cond.methodLink "java/lang/IllegalStateException" (1 : Nat) ({ cls := "java/lang/RuntimeException", name := "<init>", desc := "()V" } : Jvm.MethodName)) ∈ lw_all := lw_g (lw_at lw_m3 61 rfl) rfl
theorem q637 : (Jvm.Cond.lays "java/lang/IllegalStateException" "java/lang/Throwable" "depth" "I") ∈ lw_all := lw_g (lw_at lw_m3 62 rfl) rfl
theorem q638 : (Jvm.Cond.superclass "java/lang/IllegalStateException" "java/lang/RuntimeException") ∈ lw_all := lw_g (lw_at lw_m3 63 rfl) rfl
theorem q2311 : (Jvm.Cond.castable "java/lang/IllegalStateException" "java/lang/Object") ∈ lw_tbl := lw_at lw_m10 56 rfl
theorem in_J15 : ∀ w ∈ wsJ150, w ∈ lw_all := lw_in wsJ150 [628, 629, 630, 631, 632, 637] (by decide +kernel) (by decide +kernel)

/-! java/lang/Record -/
set_option maxRecDepth 100000
def RJ16 : String := "java/lang/Record"
abbrev cJ16_init : ByteArray := prog_36_method_1_code
def yJ16_init : MethodName := ⟨RJ16, "<init>", "()V"⟩
theorem dJ16_init_0 : decode cJ16_init 0 = .ok (.aload_n 0, 1) := by decide +kernel
theorem dJ16_init_1 : decode cJ16_init 1 = .ok (.invokespecial 1, 3) := by decide +kernel
theorem dJ16_init_4 : decode cJ16_init 4 = .ok (.return_, 1) := by decide +kernel
theorem q119 : (Jvm.Cond.initialized "java/lang/Record") ∈ lw_all := lw_g (lw_at lw_m1 24 rfl) rfl
theorem q659 : (Jvm.Cond.instanceMethod ({ cls := "java/lang/Record", name := "<init>", desc := "()V" } : Jvm.MethodName)) ∈ lw_all := lw_g (lw_at lw_m3 84 rfl) rfl
theorem q660 : (Jvm.Cond.code ({ cls := "java/lang/Record", name := "<init>", desc := "()V" } : Jvm.MethodName) prog_36_method_1_code (1 : Nat) (Option.none : Option Jvm.ClassFile.FieldType)) ∈ lw_all := lw_g (lw_at lw_m3 85 rfl) rfl
theorem q661 : (Jvm.Cond.methodLink "java/lang/Record" (1 : Nat) ({ cls := "java/lang/Object", name := "<init>", desc := "()V" } : Jvm.MethodName)) ∈ lw_all := lw_g (lw_at lw_m3 86 rfl) rfl

/-! java/lang/Enum -/
set_option maxRecDepth 100000
def RJ17 : String := "java/lang/Enum"
abbrev cJ17_ordinal : ByteArray := prog_28_method_2_code
def yJ17_ordinal : MethodName := ⟨RJ17, "ordinal", "()I"⟩
theorem dJ17_ordinal_0 : decode cJ17_ordinal 0 = .ok (.aload_n 0, 1) := by decide +kernel
theorem dJ17_ordinal_1 : decode cJ17_ordinal 1 = .ok (.getfield 7, 3) := by decide +kernel
theorem dJ17_ordinal_4 : decode cJ17_ordinal 4 = .ok (.ireturn, 1) := by decide +kernel
theorem q130 : (Jvm.Cond.initialized "java/lang/Enum") ∈ lw_all := lw_g (lw_at lw_m1 35 rfl) rfl
theorem q1054 : (Jvm.Cond.declares ({ cls := "java/lang/Enum", name := "ordinal", desc := "()I" } : Jvm.MethodName)) ∈ lw_tbl := lw_at lw_m4 239 rfl
theorem q1059 : (Jvm.Cond.instanceMethod ({ cls := "java/lang/Enum", name := "ordinal", desc := "()I" } : Jvm.MethodName)) ∈ lw_all := lw_g (lw_at lw_m5 4 rfl) rfl
theorem q1060 : (Jvm.Cond.code ({ cls := "java/lang/Enum", name := "ordinal", desc := "()I" } : Jvm.MethodName) prog_28_method_2_code (1 : Nat) (Option.some Jvm.ClassFile.FieldType.int)) ∈ lw_all := lw_g (lw_at lw_m5 5 rfl) rfl
theorem q2351 : (Jvm.Cond.fieldLink "java/lang/Enum" (7 : Nat) "java/lang/Enum" "ordinal" "I") ∈ lw_all := lw_g (lw_at lw_m10 96 rfl) rfl

/-! java/lang/Integer -/
set_option maxRecDepth 100000
def RJ22 : String := "java/lang/Integer"
abbrev cJ22_stringSize : ByteArray := prog_33_method_13_code
def yJ22_stringSize : MethodName := ⟨RJ22, "stringSize", "(I)I"⟩
def dkwJ22_stringSize_1 : List UInt8 := [164, 0, 7, 29, 27, 96, 172, 16, 10, 28, 104, 61, 132, 3, 1, 167, 255, 233, 16, 10, 27, 96, 172]
abbrev dktJ22_stringSize_1 : List UInt8 := dkwJ22_stringSize_1 ++ []
def dkwJ22_stringSize_0 : List UInt8 := [4, 60, 26, 155, 0, 8, 3, 60, 26, 116, 59, 16, 246, 61, 4, 62, 29, 16, 10, 162, 0, 23, 26, 28]
abbrev dktJ22_stringSize_0 : List UInt8 := dkwJ22_stringSize_0 ++ dktJ22_stringSize_1
theorem dksJ22_stringSize_0 : cJ22_stringSize.data.toList.drop 0 = dktJ22_stringSize_0 := by decide +kernel
theorem dksJ22_stringSize_1 : cJ22_stringSize.data.toList.drop 24 = dktJ22_stringSize_1 := dk_seg dksJ22_stringSize_0 24 rfl rfl
theorem dJ22_stringSize_0 : decode cJ22_stringSize 0 = .ok (.iconst 1, 1) := dk_4 (dk_at dksJ22_stringSize_0 0 rfl rfl)
theorem dJ22_stringSize_1 : decode cJ22_stringSize 1 = .ok (.istore_n 1, 1) := dk_60 (dk_at dksJ22_stringSize_0 1 rfl rfl)
theorem dJ22_stringSize_2 : decode cJ22_stringSize 2 = .ok (.iload_n 0, 1) := dk_26 (dk_at dksJ22_stringSize_0 2 rfl rfl)
theorem dJ22_stringSize_3 : decode cJ22_stringSize 3 = .ok (.ifCond .lt 8, 3) := dk_155 0 8 (dk_at dksJ22_stringSize_0 3 rfl rfl)
theorem dJ22_stringSize_6 : decode cJ22_stringSize 6 = .ok (.iconst 0, 1) := dk_3 (dk_at dksJ22_stringSize_0 6 rfl rfl)
theorem dJ22_stringSize_7 : decode cJ22_stringSize 7 = .ok (.istore_n 1, 1) := dk_60 (dk_at dksJ22_stringSize_0 7 rfl rfl)
theorem dJ22_stringSize_8 : decode cJ22_stringSize 8 = .ok (.iload_n 0, 1) := dk_26 (dk_at dksJ22_stringSize_0 8 rfl rfl)
theorem dJ22_stringSize_9 : decode cJ22_stringSize 9 = .ok (.ineg, 1) := dk_116 (dk_at dksJ22_stringSize_0 9 rfl rfl)
theorem dJ22_stringSize_10 : decode cJ22_stringSize 10 = .ok (.istore_n 0, 1) := dk_59 (dk_at dksJ22_stringSize_0 10 rfl rfl)
theorem dJ22_stringSize_11 : decode cJ22_stringSize 11 = .ok (.bipush (-10), 2) := dk_16 246 (dk_at dksJ22_stringSize_0 11 rfl rfl)
theorem dJ22_stringSize_13 : decode cJ22_stringSize 13 = .ok (.istore_n 2, 1) := dk_61 (dk_at dksJ22_stringSize_0 13 rfl rfl)
theorem dJ22_stringSize_14 : decode cJ22_stringSize 14 = .ok (.iconst 1, 1) := dk_4 (dk_at dksJ22_stringSize_0 14 rfl rfl)
theorem dJ22_stringSize_15 : decode cJ22_stringSize 15 = .ok (.istore_n 3, 1) := dk_62 (dk_at dksJ22_stringSize_0 15 rfl rfl)
theorem dJ22_stringSize_16 : decode cJ22_stringSize 16 = .ok (.iload_n 3, 1) := dk_29 (dk_at dksJ22_stringSize_0 16 rfl rfl)
theorem dJ22_stringSize_17 : decode cJ22_stringSize 17 = .ok (.bipush 10, 2) := dk_16 10 (dk_at dksJ22_stringSize_0 17 rfl rfl)
theorem dJ22_stringSize_19 : decode cJ22_stringSize 19 = .ok (.if_icmp .ge 23, 3) := dk_162 0 23 (dk_at dksJ22_stringSize_0 19 rfl rfl)
theorem dJ22_stringSize_22 : decode cJ22_stringSize 22 = .ok (.iload_n 0, 1) := dk_26 (dk_at dksJ22_stringSize_0 22 rfl rfl)
theorem dJ22_stringSize_23 : decode cJ22_stringSize 23 = .ok (.iload_n 2, 1) := dk_28 (dk_at dksJ22_stringSize_0 23 rfl rfl)
theorem dJ22_stringSize_24 : decode cJ22_stringSize 24 = .ok (.if_icmp .le 7, 3) := dk_164 0 7 (dk_at dksJ22_stringSize_1 0 rfl rfl)
theorem dJ22_stringSize_27 : decode cJ22_stringSize 27 = .ok (.iload_n 3, 1) := dk_29 (dk_at dksJ22_stringSize_1 3 rfl rfl)
theorem dJ22_stringSize_28 : decode cJ22_stringSize 28 = .ok (.iload_n 1, 1) := dk_27 (dk_at dksJ22_stringSize_1 4 rfl rfl)
theorem dJ22_stringSize_29 : decode cJ22_stringSize 29 = .ok (.iadd, 1) := dk_96 (dk_at dksJ22_stringSize_1 5 rfl rfl)
theorem dJ22_stringSize_30 : decode cJ22_stringSize 30 = .ok (.ireturn, 1) := dk_172 (dk_at dksJ22_stringSize_1 6 rfl rfl)
theorem dJ22_stringSize_31 : decode cJ22_stringSize 31 = .ok (.bipush 10, 2) := dk_16 10 (dk_at dksJ22_stringSize_1 7 rfl rfl)
theorem dJ22_stringSize_33 : decode cJ22_stringSize 33 = .ok (.iload_n 2, 1) := dk_28 (dk_at dksJ22_stringSize_1 9 rfl rfl)
theorem dJ22_stringSize_34 : decode cJ22_stringSize 34 = .ok (.imul, 1) := dk_104 (dk_at dksJ22_stringSize_1 10 rfl rfl)
theorem dJ22_stringSize_35 : decode cJ22_stringSize 35 = .ok (.istore_n 2, 1) := dk_61 (dk_at dksJ22_stringSize_1 11 rfl rfl)
theorem dJ22_stringSize_36 : decode cJ22_stringSize 36 = .ok (.iinc 3 1, 3) := dk_132 3 1 (dk_at dksJ22_stringSize_1 12 rfl rfl)
theorem dJ22_stringSize_39 : decode cJ22_stringSize 39 = .ok (.goto (-23), 3) := dk_167 255 233 (dk_at dksJ22_stringSize_1 15 rfl rfl)
theorem dJ22_stringSize_42 : decode cJ22_stringSize 42 = .ok (.bipush 10, 2) := dk_16 10 (dk_at dksJ22_stringSize_1 18 rfl rfl)
theorem dJ22_stringSize_44 : decode cJ22_stringSize 44 = .ok (.iload_n 1, 1) := dk_27 (dk_at dksJ22_stringSize_1 20 rfl rfl)
theorem dJ22_stringSize_45 : decode cJ22_stringSize 45 = .ok (.iadd, 1) := dk_96 (dk_at dksJ22_stringSize_1 21 rfl rfl)
theorem dJ22_stringSize_46 : decode cJ22_stringSize 46 = .ok (.ireturn, 1) := dk_172 (dk_at dksJ22_stringSize_1 22 rfl rfl)
abbrev cJ22_getChars : ByteArray := prog_33_method_12_code
def yJ22_getChars : MethodName := ⟨RJ22, "getChars", "(II[B)I"⟩
def dkwJ22_getChars_5 : List UInt8 := [16, 45, 84, 21, 5, 172]
abbrev dktJ22_getChars_5 : List UInt8 := dkwJ22_getChars_5 ++ []
def dkwJ22_getChars_4 : List UInt8 := [132, 5, 255, 21, 5, 178, 0, 87, 26, 116, 51, 84, 21, 6, 153, 0, 12, 44, 132, 5, 255, 21, 5]
abbrev dktJ22_getChars_4 : List UInt8 := dkwJ22_getChars_4 ++ dktJ22_getChars_5
def dkwJ22_getChars_3 : List UInt8 := [167, 255, 209, 44, 132, 5, 255, 21, 5, 178, 0, 83, 26, 116, 51, 84, 26, 16, 247, 162, 0, 16, 44]
abbrev dktJ22_getChars_3 : List UInt8 := dkwJ22_getChars_3 ++ dktJ22_getChars_4
def dkwJ22_getChars_2 : List UInt8 := [21, 5, 178, 0, 83, 21, 4, 51, 84, 44, 132, 5, 255, 21, 5, 178, 0, 87, 21, 4, 51, 84]
abbrev dktJ22_getChars_2 : List UInt8 := dkwJ22_getChars_2 ++ dktJ22_getChars_3
def dkwJ22_getChars_1 : List UInt8 := [16, 156, 163, 0, 47, 26, 16, 100, 108, 62, 29, 16, 100, 104, 26, 100, 54, 4, 29, 59, 44, 132, 5, 255]
abbrev dktJ22_getChars_1 : List UInt8 := dkwJ22_getChars_1 ++ dktJ22_getChars_2
def dkwJ22_getChars_0 : List UInt8 := [27, 54, 5, 26, 156, 0, 7, 4, 167, 0, 4, 3, 54, 6, 21, 6, 154, 0, 6, 26, 116, 59, 26]
abbrev dktJ22_getChars_0 : List UInt8 := dkwJ22_getChars_0 ++ dktJ22_getChars_1
theorem dksJ22_getChars_0 : cJ22_getChars.data.toList.drop 0 = dktJ22_getChars_0 := by decide +kernel
theorem dksJ22_getChars_1 : cJ22_getChars.data.toList.drop 23 = dktJ22_getChars_1 := dk_seg dksJ22_getChars_0 23 rfl rfl
theorem dksJ22_getChars_2 : cJ22_getChars.data.toList.drop 47 = dktJ22_getChars_2 := dk_seg dksJ22_getChars_1 24 rfl rfl
theorem dksJ22_getChars_3 : cJ22_getChars.data.toList.drop 69 = dktJ22_getChars_3 := dk_seg dksJ22_getChars_2 22 rfl rfl
theorem dksJ22_getChars_4 : cJ22_getChars.data.toList.drop 92 = dktJ22_getChars_4 := dk_seg dksJ22_getChars_3 23 rfl rfl
theorem dksJ22_getChars_5 : cJ22_getChars.data.toList.drop 115 = dktJ22_getChars_5 := dk_seg dksJ22_getChars_4 23 rfl rfl
theorem dJ22_getChars_0 : decode cJ22_getChars 0 = .ok (.iload_n 1, 1) := dk_27 (dk_at dksJ22_getChars_0 0 rfl rfl)
theorem dJ22_getChars_1 : decode cJ22_getChars 1 = .ok (.istore 5, 2) := dk_54 5 (dk_at dksJ22_getChars_0 1 rfl rfl)
theorem dJ22_getChars_3 : decode cJ22_getChars 3 = .ok (.iload_n 0, 1) := dk_26 (dk_at dksJ22_getChars_0 3 rfl rfl)
theorem dJ22_getChars_4 : decode cJ22_getChars 4 = .ok (.ifCond .ge 7, 3) := dk_156 0 7 (dk_at dksJ22_getChars_0 4 rfl rfl)
theorem dJ22_getChars_7 : decode cJ22_getChars 7 = .ok (.iconst 1, 1) := dk_4 (dk_at dksJ22_getChars_0 7 rfl rfl)
theorem dJ22_getChars_8 : decode cJ22_getChars 8 = .ok (.goto 4, 3) := dk_167 0 4 (dk_at dksJ22_getChars_0 8 rfl rfl)
theorem dJ22_getChars_11 : decode cJ22_getChars 11 = .ok (.iconst 0, 1) := dk_3 (dk_at dksJ22_getChars_0 11 rfl rfl)
theorem dJ22_getChars_12 : decode cJ22_getChars 12 = .ok (.istore 6, 2) := dk_54 6 (dk_at dksJ22_getChars_0 12 rfl rfl)
theorem dJ22_getChars_14 : decode cJ22_getChars 14 = .ok (.iload 6, 2) := dk_21 6 (dk_at dksJ22_getChars_0 14 rfl rfl)
theorem dJ22_getChars_16 : decode cJ22_getChars 16 = .ok (.ifCond .ne 6, 3) := dk_154 0 6 (dk_at dksJ22_getChars_0 16 rfl rfl)
theorem dJ22_getChars_19 : decode cJ22_getChars 19 = .ok (.iload_n 0, 1) := dk_26 (dk_at dksJ22_getChars_0 19 rfl rfl)
theorem dJ22_getChars_20 : decode cJ22_getChars 20 = .ok (.ineg, 1) := dk_116 (dk_at dksJ22_getChars_0 20 rfl rfl)
theorem dJ22_getChars_21 : decode cJ22_getChars 21 = .ok (.istore_n 0, 1) := dk_59 (dk_at dksJ22_getChars_0 21 rfl rfl)
theorem dJ22_getChars_22 : decode cJ22_getChars 22 = .ok (.iload_n 0, 1) := dk_26 (dk_at dksJ22_getChars_0 22 rfl rfl)
theorem dJ22_getChars_23 : decode cJ22_getChars 23 = .ok (.bipush (-100), 2) := dk_16 156 (dk_at dksJ22_getChars_1 0 rfl rfl)
theorem dJ22_getChars_25 : decode cJ22_getChars 25 = .ok (.if_icmp .gt 47, 3) := dk_163 0 47 (dk_at dksJ22_getChars_1 2 rfl rfl)
theorem dJ22_getChars_28 : decode cJ22_getChars 28 = .ok (.iload_n 0, 1) := dk_26 (dk_at dksJ22_getChars_1 5 rfl rfl)
theorem dJ22_getChars_29 : decode cJ22_getChars 29 = .ok (.bipush 100, 2) := dk_16 100 (dk_at dksJ22_getChars_1 6 rfl rfl)
theorem dJ22_getChars_31 : decode cJ22_getChars 31 = .ok (.idiv, 1) := dk_108 (dk_at dksJ22_getChars_1 8 rfl rfl)
theorem dJ22_getChars_32 : decode cJ22_getChars 32 = .ok (.istore_n 3, 1) := dk_62 (dk_at dksJ22_getChars_1 9 rfl rfl)
theorem dJ22_getChars_33 : decode cJ22_getChars 33 = .ok (.iload_n 3, 1) := dk_29 (dk_at dksJ22_getChars_1 10 rfl rfl)
theorem dJ22_getChars_34 : decode cJ22_getChars 34 = .ok (.bipush 100, 2) := dk_16 100 (dk_at dksJ22_getChars_1 11 rfl rfl)
theorem dJ22_getChars_36 : decode cJ22_getChars 36 = .ok (.imul, 1) := dk_104 (dk_at dksJ22_getChars_1 13 rfl rfl)
theorem dJ22_getChars_37 : decode cJ22_getChars 37 = .ok (.iload_n 0, 1) := dk_26 (dk_at dksJ22_getChars_1 14 rfl rfl)
theorem dJ22_getChars_38 : decode cJ22_getChars 38 = .ok (.isub, 1) := dk_100 (dk_at dksJ22_getChars_1 15 rfl rfl)
theorem dJ22_getChars_39 : decode cJ22_getChars 39 = .ok (.istore 4, 2) := dk_54 4 (dk_at dksJ22_getChars_1 16 rfl rfl)
theorem dJ22_getChars_41 : decode cJ22_getChars 41 = .ok (.iload_n 3, 1) := dk_29 (dk_at dksJ22_getChars_1 18 rfl rfl)
theorem dJ22_getChars_42 : decode cJ22_getChars 42 = .ok (.istore_n 0, 1) := dk_59 (dk_at dksJ22_getChars_1 19 rfl rfl)
theorem dJ22_getChars_43 : decode cJ22_getChars 43 = .ok (.aload_n 2, 1) := dk_44 (dk_at dksJ22_getChars_1 20 rfl rfl)
theorem dJ22_getChars_44 : decode cJ22_getChars 44 = .ok (.iinc 5 (-1), 3) := dk_132 5 255 (dk_at dksJ22_getChars_1 21 rfl rfl)
theorem dJ22_getChars_47 : decode cJ22_getChars 47 = .ok (.iload 5, 2) := dk_21 5 (dk_at dksJ22_getChars_2 0 rfl rfl)
theorem dJ22_getChars_49 : decode cJ22_getChars 49 = .ok (.getstatic 83, 3) := dk_178 0 83 (dk_at dksJ22_getChars_2 2 rfl rfl)
theorem dJ22_getChars_52 : decode cJ22_getChars 52 = .ok (.iload 4, 2) := dk_21 4 (dk_at dksJ22_getChars_2 5 rfl rfl)
theorem dJ22_getChars_54 : decode cJ22_getChars 54 = .ok (.baload, 1) := dk_51 (dk_at dksJ22_getChars_2 7 rfl rfl)
theorem dJ22_getChars_55 : decode cJ22_getChars 55 = .ok (.bastore, 1) := dk_84 (dk_at dksJ22_getChars_2 8 rfl rfl)
theorem dJ22_getChars_56 : decode cJ22_getChars 56 = .ok (.aload_n 2, 1) := dk_44 (dk_at dksJ22_getChars_2 9 rfl rfl)
theorem dJ22_getChars_57 : decode cJ22_getChars 57 = .ok (.iinc 5 (-1), 3) := dk_132 5 255 (dk_at dksJ22_getChars_2 10 rfl rfl)
theorem dJ22_getChars_60 : decode cJ22_getChars 60 = .ok (.iload 5, 2) := dk_21 5 (dk_at dksJ22_getChars_2 13 rfl rfl)
theorem dJ22_getChars_62 : decode cJ22_getChars 62 = .ok (.getstatic 87, 3) := dk_178 0 87 (dk_at dksJ22_getChars_2 15 rfl rfl)
theorem dJ22_getChars_65 : decode cJ22_getChars 65 = .ok (.iload 4, 2) := dk_21 4 (dk_at dksJ22_getChars_2 18 rfl rfl)
theorem dJ22_getChars_67 : decode cJ22_getChars 67 = .ok (.baload, 1) := dk_51 (dk_at dksJ22_getChars_2 20 rfl rfl)
theorem dJ22_getChars_68 : decode cJ22_getChars 68 = .ok (.bastore, 1) := dk_84 (dk_at dksJ22_getChars_2 21 rfl rfl)
theorem dJ22_getChars_69 : decode cJ22_getChars 69 = .ok (.goto (-47), 3) := dk_167 255 209 (dk_at dksJ22_getChars_3 0 rfl rfl)
theorem dJ22_getChars_72 : decode cJ22_getChars 72 = .ok (.aload_n 2, 1) := dk_44 (dk_at dksJ22_getChars_3 3 rfl rfl)
theorem dJ22_getChars_73 : decode cJ22_getChars 73 = .ok (.iinc 5 (-1), 3) := dk_132 5 255 (dk_at dksJ22_getChars_3 4 rfl rfl)
theorem dJ22_getChars_76 : decode cJ22_getChars 76 = .ok (.iload 5, 2) := dk_21 5 (dk_at dksJ22_getChars_3 7 rfl rfl)
theorem dJ22_getChars_78 : decode cJ22_getChars 78 = .ok (.getstatic 83, 3) := dk_178 0 83 (dk_at dksJ22_getChars_3 9 rfl rfl)
theorem dJ22_getChars_81 : decode cJ22_getChars 81 = .ok (.iload_n 0, 1) := dk_26 (dk_at dksJ22_getChars_3 12 rfl rfl)
theorem dJ22_getChars_82 : decode cJ22_getChars 82 = .ok (.ineg, 1) := dk_116 (dk_at dksJ22_getChars_3 13 rfl rfl)
theorem dJ22_getChars_83 : decode cJ22_getChars 83 = .ok (.baload, 1) := dk_51 (dk_at dksJ22_getChars_3 14 rfl rfl)
theorem dJ22_getChars_84 : decode cJ22_getChars 84 = .ok (.bastore, 1) := dk_84 (dk_at dksJ22_getChars_3 15 rfl rfl)
theorem dJ22_getChars_85 : decode cJ22_getChars 85 = .ok (.iload_n 0, 1) := dk_26 (dk_at dksJ22_getChars_3 16 rfl rfl)
theorem dJ22_getChars_86 : decode cJ22_getChars 86 = .ok (.bipush (-9), 2) := dk_16 247 (dk_at dksJ22_getChars_3 17 rfl rfl)
theorem dJ22_getChars_88 : decode cJ22_getChars 88 = .ok (.if_icmp .ge 16, 3) := dk_162 0 16 (dk_at dksJ22_getChars_3 19 rfl rfl)
theorem dJ22_getChars_91 : decode cJ22_getChars 91 = .ok (.aload_n 2, 1) := dk_44 (dk_at dksJ22_getChars_3 22 rfl rfl)
theorem dJ22_getChars_92 : decode cJ22_getChars 92 = .ok (.iinc 5 (-1), 3) := dk_132 5 255 (dk_at dksJ22_getChars_4 0 rfl rfl)
theorem dJ22_getChars_95 : decode cJ22_getChars 95 = .ok (.iload 5, 2) := dk_21 5 (dk_at dksJ22_getChars_4 3 rfl rfl)
theorem dJ22_getChars_97 : decode cJ22_getChars 97 = .ok (.getstatic 87, 3) := dk_178 0 87 (dk_at dksJ22_getChars_4 5 rfl rfl)
theorem dJ22_getChars_100 : decode cJ22_getChars 100 = .ok (.iload_n 0, 1) := dk_26 (dk_at dksJ22_getChars_4 8 rfl rfl)
theorem dJ22_getChars_101 : decode cJ22_getChars 101 = .ok (.ineg, 1) := dk_116 (dk_at dksJ22_getChars_4 9 rfl rfl)
theorem dJ22_getChars_102 : decode cJ22_getChars 102 = .ok (.baload, 1) := dk_51 (dk_at dksJ22_getChars_4 10 rfl rfl)
theorem dJ22_getChars_103 : decode cJ22_getChars 103 = .ok (.bastore, 1) := dk_84 (dk_at dksJ22_getChars_4 11 rfl rfl)
theorem dJ22_getChars_104 : decode cJ22_getChars 104 = .ok (.iload 6, 2) := dk_21 6 (dk_at dksJ22_getChars_4 12 rfl rfl)
theorem dJ22_getChars_106 : decode cJ22_getChars 106 = .ok (.ifCond .eq 12, 3) := dk_153 0 12 (dk_at dksJ22_getChars_4 14 rfl rfl)
theorem dJ22_getChars_109 : decode cJ22_getChars 109 = .ok (.aload_n 2, 1) := dk_44 (dk_at dksJ22_getChars_4 17 rfl rfl)
theorem dJ22_getChars_110 : decode cJ22_getChars 110 = .ok (.iinc 5 (-1), 3) := dk_132 5 255 (dk_at dksJ22_getChars_4 18 rfl rfl)
theorem dJ22_getChars_113 : decode cJ22_getChars 113 = .ok (.iload 5, 2) := dk_21 5 (dk_at dksJ22_getChars_4 21 rfl rfl)
theorem dJ22_getChars_115 : decode cJ22_getChars 115 = .ok (.bipush 45, 2) := dk_16 45 (dk_at dksJ22_getChars_5 0 rfl rfl)
theorem dJ22_getChars_117 : decode cJ22_getChars 117 = .ok (.bastore, 1) := dk_84 (dk_at dksJ22_getChars_5 2 rfl rfl)
theorem dJ22_getChars_118 : decode cJ22_getChars 118 = .ok (.iload 5, 2) := dk_21 5 (dk_at dksJ22_getChars_5 3 rfl rfl)
theorem dJ22_getChars_120 : decode cJ22_getChars 120 = .ok (.ireturn, 1) := dk_172 (dk_at dksJ22_getChars_5 5 rfl rfl)
abbrev cJ22_bitCount : ByteArray := prog_33_method_49_code
def yJ22_bitCount : MethodName := ⟨RJ22, "bitCount", "(I)I"⟩
def dkwJ22_bitCount_2 : List UInt8 := [26, 16, 63, 126, 172]
abbrev dktJ22_bitCount_2 : List UInt8 := dkwJ22_bitCount_2 ++ []
def dkwJ22_bitCount_1 : List UInt8 := [26, 26, 7, 124, 96, 19, 1, 11, 126, 59, 26, 26, 16, 8, 124, 96, 59, 26, 26, 16, 16, 124, 96, 59]
abbrev dktJ22_bitCount_1 : List UInt8 := dkwJ22_bitCount_1 ++ dktJ22_bitCount_2
def dkwJ22_bitCount_0 : List UInt8 := [26, 26, 4, 124, 19, 1, 9, 126, 100, 59, 26, 19, 1, 10, 126, 26, 5, 124, 19, 1, 10, 126, 96, 59]
abbrev dktJ22_bitCount_0 : List UInt8 := dkwJ22_bitCount_0 ++ dktJ22_bitCount_1
theorem dksJ22_bitCount_0 : cJ22_bitCount.data.toList.drop 0 = dktJ22_bitCount_0 := by decide +kernel
theorem dksJ22_bitCount_1 : cJ22_bitCount.data.toList.drop 24 = dktJ22_bitCount_1 := dk_seg dksJ22_bitCount_0 24 rfl rfl
theorem dksJ22_bitCount_2 : cJ22_bitCount.data.toList.drop 48 = dktJ22_bitCount_2 := dk_seg dksJ22_bitCount_1 24 rfl rfl
theorem dJ22_bitCount_0 : decode cJ22_bitCount 0 = .ok (.iload_n 0, 1) := dk_26 (dk_at dksJ22_bitCount_0 0 rfl rfl)
theorem dJ22_bitCount_1 : decode cJ22_bitCount 1 = .ok (.iload_n 0, 1) := dk_26 (dk_at dksJ22_bitCount_0 1 rfl rfl)
theorem dJ22_bitCount_2 : decode cJ22_bitCount 2 = .ok (.iconst 1, 1) := dk_4 (dk_at dksJ22_bitCount_0 2 rfl rfl)
theorem dJ22_bitCount_3 : decode cJ22_bitCount 3 = .ok (.iushr, 1) := dk_124 (dk_at dksJ22_bitCount_0 3 rfl rfl)
theorem dJ22_bitCount_4 : decode cJ22_bitCount 4 = .ok (.ldc_w 265, 3) := dk_19 1 9 (dk_at dksJ22_bitCount_0 4 rfl rfl)
theorem dJ22_bitCount_7 : decode cJ22_bitCount 7 = .ok (.iand, 1) := dk_126 (dk_at dksJ22_bitCount_0 7 rfl rfl)
theorem dJ22_bitCount_8 : decode cJ22_bitCount 8 = .ok (.isub, 1) := dk_100 (dk_at dksJ22_bitCount_0 8 rfl rfl)
theorem dJ22_bitCount_9 : decode cJ22_bitCount 9 = .ok (.istore_n 0, 1) := dk_59 (dk_at dksJ22_bitCount_0 9 rfl rfl)
theorem dJ22_bitCount_10 : decode cJ22_bitCount 10 = .ok (.iload_n 0, 1) := dk_26 (dk_at dksJ22_bitCount_0 10 rfl rfl)
theorem dJ22_bitCount_11 : decode cJ22_bitCount 11 = .ok (.ldc_w 266, 3) := dk_19 1 10 (dk_at dksJ22_bitCount_0 11 rfl rfl)
theorem dJ22_bitCount_14 : decode cJ22_bitCount 14 = .ok (.iand, 1) := dk_126 (dk_at dksJ22_bitCount_0 14 rfl rfl)
theorem dJ22_bitCount_15 : decode cJ22_bitCount 15 = .ok (.iload_n 0, 1) := dk_26 (dk_at dksJ22_bitCount_0 15 rfl rfl)
theorem dJ22_bitCount_16 : decode cJ22_bitCount 16 = .ok (.iconst 2, 1) := dk_5 (dk_at dksJ22_bitCount_0 16 rfl rfl)
theorem dJ22_bitCount_17 : decode cJ22_bitCount 17 = .ok (.iushr, 1) := dk_124 (dk_at dksJ22_bitCount_0 17 rfl rfl)
theorem dJ22_bitCount_18 : decode cJ22_bitCount 18 = .ok (.ldc_w 266, 3) := dk_19 1 10 (dk_at dksJ22_bitCount_0 18 rfl rfl)
theorem dJ22_bitCount_21 : decode cJ22_bitCount 21 = .ok (.iand, 1) := dk_126 (dk_at dksJ22_bitCount_0 21 rfl rfl)
theorem dJ22_bitCount_22 : decode cJ22_bitCount 22 = .ok (.iadd, 1) := dk_96 (dk_at dksJ22_bitCount_0 22 rfl rfl)
theorem dJ22_bitCount_23 : decode cJ22_bitCount 23 = .ok (.istore_n 0, 1) := dk_59 (dk_at dksJ22_bitCount_0 23 rfl rfl)
theorem dJ22_bitCount_24 : decode cJ22_bitCount 24 = .ok (.iload_n 0, 1) := dk_26 (dk_at dksJ22_bitCount_1 0 rfl rfl)
theorem dJ22_bitCount_25 : decode cJ22_bitCount 25 = .ok (.iload_n 0, 1) := dk_26 (dk_at dksJ22_bitCount_1 1 rfl rfl)
theorem dJ22_bitCount_26 : decode cJ22_bitCount 26 = .ok (.iconst 4, 1) := dk_7 (dk_at dksJ22_bitCount_1 2 rfl rfl)
theorem dJ22_bitCount_27 : decode cJ22_bitCount 27 = .ok (.iushr, 1) := dk_124 (dk_at dksJ22_bitCount_1 3 rfl rfl)
theorem dJ22_bitCount_28 : decode cJ22_bitCount 28 = .ok (.iadd, 1) := dk_96 (dk_at dksJ22_bitCount_1 4 rfl rfl)
theorem dJ22_bitCount_29 : decode cJ22_bitCount 29 = .ok (.ldc_w 267, 3) := dk_19 1 11 (dk_at dksJ22_bitCount_1 5 rfl rfl)
theorem dJ22_bitCount_32 : decode cJ22_bitCount 32 = .ok (.iand, 1) := dk_126 (dk_at dksJ22_bitCount_1 8 rfl rfl)
theorem dJ22_bitCount_33 : decode cJ22_bitCount 33 = .ok (.istore_n 0, 1) := dk_59 (dk_at dksJ22_bitCount_1 9 rfl rfl)
theorem dJ22_bitCount_34 : decode cJ22_bitCount 34 = .ok (.iload_n 0, 1) := dk_26 (dk_at dksJ22_bitCount_1 10 rfl rfl)
theorem dJ22_bitCount_35 : decode cJ22_bitCount 35 = .ok (.iload_n 0, 1) := dk_26 (dk_at dksJ22_bitCount_1 11 rfl rfl)
theorem dJ22_bitCount_36 : decode cJ22_bitCount 36 = .ok (.bipush 8, 2) := dk_16 8 (dk_at dksJ22_bitCount_1 12 rfl rfl)
theorem dJ22_bitCount_38 : decode cJ22_bitCount 38 = .ok (.iushr, 1) := dk_124 (dk_at dksJ22_bitCount_1 14 rfl rfl)
theorem dJ22_bitCount_39 : decode cJ22_bitCount 39 = .ok (.iadd, 1) := dk_96 (dk_at dksJ22_bitCount_1 15 rfl rfl)
theorem dJ22_bitCount_40 : decode cJ22_bitCount 40 = .ok (.istore_n 0, 1) := dk_59 (dk_at dksJ22_bitCount_1 16 rfl rfl)
theorem dJ22_bitCount_41 : decode cJ22_bitCount 41 = .ok (.iload_n 0, 1) := dk_26 (dk_at dksJ22_bitCount_1 17 rfl rfl)
theorem dJ22_bitCount_42 : decode cJ22_bitCount 42 = .ok (.iload_n 0, 1) := dk_26 (dk_at dksJ22_bitCount_1 18 rfl rfl)
theorem dJ22_bitCount_43 : decode cJ22_bitCount 43 = .ok (.bipush 16, 2) := dk_16 16 (dk_at dksJ22_bitCount_1 19 rfl rfl)
theorem dJ22_bitCount_45 : decode cJ22_bitCount 45 = .ok (.iushr, 1) := dk_124 (dk_at dksJ22_bitCount_1 21 rfl rfl)
theorem dJ22_bitCount_46 : decode cJ22_bitCount 46 = .ok (.iadd, 1) := dk_96 (dk_at dksJ22_bitCount_1 22 rfl rfl)
theorem dJ22_bitCount_47 : decode cJ22_bitCount 47 = .ok (.istore_n 0, 1) := dk_59 (dk_at dksJ22_bitCount_1 23 rfl rfl)
theorem dJ22_bitCount_48 : decode cJ22_bitCount 48 = .ok (.iload_n 0, 1) := dk_26 (dk_at dksJ22_bitCount_2 0 rfl rfl)
theorem dJ22_bitCount_49 : decode cJ22_bitCount 49 = .ok (.bipush 63, 2) := dk_16 63 (dk_at dksJ22_bitCount_2 1 rfl rfl)
theorem dJ22_bitCount_51 : decode cJ22_bitCount 51 = .ok (.iand, 1) := dk_126 (dk_at dksJ22_bitCount_2 3 rfl rfl)
theorem dJ22_bitCount_52 : decode cJ22_bitCount 52 = .ok (.ireturn, 1) := dk_172 (dk_at dksJ22_bitCount_2 4 rfl rfl)
theorem q136 : (Jvm.Cond.initialized "java/lang/Integer") ∈ lw_all := lw_g (lw_at lw_m1 41 rfl) rfl
theorem q1256 : (Jvm.Cond.static ({ cls := "java/lang/Integer", name := "stringSize", desc := "(I)I" } : Jvm.MethodName)) ∈ lw_all := lw_g (lw_at lw_m5 201 rfl) rfl
theorem q1257 : (Jvm.Cond.code ({ cls := "java/lang/Integer", name := "stringSize", desc := "(I)I" } : Jvm.MethodName) prog_33_method_13_code (4 : Nat) (Option.some Jvm.ClassFile.FieldType.int)) ∈ lw_all := lw_g (lw_at lw_m5 202 rfl) rfl
theorem q1259 : (Jvm.Cond.static ({ cls := "java/lang/Integer", name := "getChars", desc := "(II[B)I" } : Jvm.MethodName)) ∈ lw_all := lw_g (lw_at lw_m5 204 rfl) rfl
theorem q1260 : (Jvm.Cond.code ({ cls := "java/lang/Integer", name := "getChars", desc := "(II[B)I" } : Jvm.MethodName) prog_33_method_12_code (7 : Nat) (Option.some Jvm.ClassFile.FieldType.int)) ∈ lw_all := lw_g (lw_at lw_m5 205 rfl) rfl
theorem q1261 : (Jvm.Cond.fieldLink "java/lang/Integer" (83 : Nat) "java/lang/Integer" "DigitOnes" "[B") ∈ lw_all := lw_g (lw_at lw_m5 206 rfl) rfl
theorem q1262 : (Jvm.Cond.laysStatic "java/lang/Integer" "DigitOnes" "[B") ∈ lw_tbl := lw_at lw_m5 207 rfl
theorem q1263 : (Jvm.Cond.fieldLink "java/lang/Integer" (87 : Nat) "java/lang/Integer" "DigitTens" "[B") ∈ lw_all := lw_g (lw_at lw_m5 208 rfl) rfl
theorem q1264 : (Jvm.Cond.laysStatic "java/lang/Integer" "DigitTens" "[B") ∈ lw_tbl := lw_at lw_m5 209 rfl
theorem q1555 : (Jvm.Cond.static ({ cls := "java/lang/Integer", name := "bitCount", desc := "(I)I" } : Jvm.MethodName)) ∈ lw_all := lw_g (lw_at lw_m7 20 rfl) rfl
theorem q1556 : (Jvm.Cond.code ({ cls := "java/lang/Integer", name := "bitCount", desc := "(I)I" } : Jvm.MethodName) prog_33_method_49_code (1 : Nat) (Option.some Jvm.ClassFile.FieldType.int)) ∈ lw_all := lw_g (lw_at lw_m7 21 rfl) rfl
theorem q1557 : (Jvm.Cond.constant "java/lang/Integer" (265 : Nat) (1431655765 : Int32)) ∈ lw_all := lw_g (lw_at lw_m7 22 rfl) rfl
theorem q1558 : (Jvm.Cond.constant "java/lang/Integer" (266 : Nat) (858993459 : Int32)) ∈ lw_all := lw_g (lw_at lw_m7 23 rfl) rfl
theorem q1559 : (Jvm.Cond.constant "java/lang/Integer" (267 : Nat) (252645135 : Int32)) ∈ lw_all := lw_g (lw_at lw_m7 24 rfl) rfl

/-! java/lang/Object -/
set_option maxRecDepth 100000
def RJ23 : String := "java/lang/Object"
abbrev cJ23_init : ByteArray := object_method_1_code
def yJ23_init : MethodName := ⟨RJ23, "<init>", "()V"⟩
theorem dJ23_init_0 : decode cJ23_init 0 = .ok (.return_, 1) := by decide +kernel
theorem q143 : (Jvm.Cond.instanceMethod ({ cls := "java/lang/Object", name := "<init>", desc := "()V" } : Jvm.MethodName)) ∈ lw_all := lw_g (lw_at lw_m1 48 rfl) rfl
theorem q144 : (Jvm.Cond.code ({ cls := "java/lang/Object", name := "<init>", desc := "()V" } : Jvm.MethodName) object_method_1_code (1 : Nat) (Option.none : Option Jvm.ClassFile.FieldType)) ∈ lw_all := lw_g (lw_at lw_m1 49 rfl) rfl
theorem q358 : (Jvm.Cond.instanceMethod ({ cls := "java/lang/Object", name := "getClass", desc := "()Ljava/lang/Class;" } : Jvm.MethodName)) ∈ lw_all := lw_g (lw_at lw_m2 23 rfl) rfl
theorem q359 : (Jvm.Cond.sameMethod "java/lang/Object" "java/lang/Object" "getClass" "()Ljava/lang/Class;") ∈ lw_all := lw_g (lw_at lw_m2 24 rfl) rfl
theorem q386 : (Jvm.Cond.native ({ cls := "java/lang/Object", name := "getClass", desc := "()Ljava/lang/Class;" } : Jvm.MethodName)) ∈ lw_all := lw_g (lw_at lw_m2 51 rfl) rfl
theorem q1068 : (Jvm.Cond.native ({ cls := "java/lang/Object", name := "clone", desc := "()Ljava/lang/Object;" } : Jvm.MethodName)) ∈ lw_all := lw_g (lw_at lw_m5 13 rfl) rfl
theorem q1069 : (Jvm.Cond.instanceMethod ({ cls := "java/lang/Object", name := "clone", desc := "()Ljava/lang/Object;" } : Jvm.MethodName)) ∈ lw_all := lw_g (lw_at lw_m5 14 rfl) rfl
theorem q2298 : (Jvm.Cond.initialized "java/lang/Object") ∈ lw_all := lw_g (lw_at lw_m10 43 rfl) rfl
theorem q2342 : (Jvm.Cond.declares ({ cls := "java/lang/Object", name := "getClass", desc := "()Ljava/lang/Class;" } : Jvm.MethodName)) ∈ lw_tbl := lw_at lw_m10 87 rfl

/-! Patternforge$Value -/
set_option maxRecDepth 100000
def RX7 : String := "Patternforge$Value"
def TX7 : u_T := fun k => match k with
  | 0 => ("Patternforge$Value", "kind", "I", true)
  | 1 => ("Patternforge$Value", "first", "I", true)
  | 2 => ("Patternforge$Value", "parts", "[I", true)
  | _ => ("Patternforge$Value", "measure", "I", true)
def tyX7 : Nat → FieldType := fun k => match k with
  | 0 => .int
  | 1 => .int
  | 2 => .array .int
  | _ => .int
abbrev wsX70 : List Cond := u_ws RX7 TX7 4
theorem nmX7 : ∀ a, a < 4 → ∀ b, b < 4 → a ≠ b → (TX7 a).2.1 ≠ (TX7 b).2.1 := by decide +kernel
theorem tyX7_ok : ∀ k, k < 4 → parseFieldDescriptor (TX7 k).2.2.1 = some (tyX7 k) := by decide +kernel
abbrev cX7_init : ByteArray := prog_21_method_1_code
def yX7_init : MethodName := ⟨RX7, "<init>", "(II[II)V"⟩
def dkwX7_init_1 : List UInt8 := [181, 0, 20, 177]
abbrev dktX7_init_1 : List UInt8 := dkwX7_init_1 ++ []
def dkwX7_init_0 : List UInt8 := [42, 183, 0, 1, 42, 27, 181, 0, 7, 42, 28, 181, 0, 13, 42, 45, 181, 0, 16, 42, 21, 4]
abbrev dktX7_init_0 : List UInt8 := dkwX7_init_0 ++ dktX7_init_1
theorem dksX7_init_0 : cX7_init.data.toList.drop 0 = dktX7_init_0 := by decide +kernel
theorem dksX7_init_1 : cX7_init.data.toList.drop 22 = dktX7_init_1 := dk_seg dksX7_init_0 22 rfl rfl
theorem dX7_init_0 : decode cX7_init 0 = .ok (.aload_n 0, 1) := dk_42 (dk_at dksX7_init_0 0 rfl rfl)
theorem dX7_init_1 : decode cX7_init 1 = .ok (.invokespecial 1, 3) := dk_183 0 1 (dk_at dksX7_init_0 1 rfl rfl)
theorem dX7_init_4 : decode cX7_init 4 = .ok (.aload_n 0, 1) := dk_42 (dk_at dksX7_init_0 4 rfl rfl)
theorem dX7_init_5 : decode cX7_init 5 = .ok (.iload_n 1, 1) := dk_27 (dk_at dksX7_init_0 5 rfl rfl)
theorem dX7_init_6 : decode cX7_init 6 = .ok (.putfield 7, 3) := dk_181 0 7 (dk_at dksX7_init_0 6 rfl rfl)
theorem dX7_init_9 : decode cX7_init 9 = .ok (.aload_n 0, 1) := dk_42 (dk_at dksX7_init_0 9 rfl rfl)
theorem dX7_init_10 : decode cX7_init 10 = .ok (.iload_n 2, 1) := dk_28 (dk_at dksX7_init_0 10 rfl rfl)
theorem dX7_init_11 : decode cX7_init 11 = .ok (.putfield 13, 3) := dk_181 0 13 (dk_at dksX7_init_0 11 rfl rfl)
theorem dX7_init_14 : decode cX7_init 14 = .ok (.aload_n 0, 1) := dk_42 (dk_at dksX7_init_0 14 rfl rfl)
theorem dX7_init_15 : decode cX7_init 15 = .ok (.aload_n 3, 1) := dk_45 (dk_at dksX7_init_0 15 rfl rfl)
theorem dX7_init_16 : decode cX7_init 16 = .ok (.putfield 16, 3) := dk_181 0 16 (dk_at dksX7_init_0 16 rfl rfl)
theorem dX7_init_19 : decode cX7_init 19 = .ok (.aload_n 0, 1) := dk_42 (dk_at dksX7_init_0 19 rfl rfl)
theorem dX7_init_20 : decode cX7_init 20 = .ok (.iload 4, 2) := dk_21 4 (dk_at dksX7_init_0 20 rfl rfl)
theorem dX7_init_22 : decode cX7_init 22 = .ok (.putfield 20, 3) := dk_181 0 20 (dk_at dksX7_init_1 0 rfl rfl)
theorem dX7_init_25 : decode cX7_init 25 = .ok (.return_, 1) := dk_177 (dk_at dksX7_init_1 3 rfl rfl)
abbrev cX7_kind : ByteArray := prog_21_method_5_code
def yX7_kind : MethodName := ⟨RX7, "kind", "()I"⟩
theorem dX7_kind_0 : decode cX7_kind 0 = .ok (.aload_n 0, 1) := by decide +kernel
theorem dX7_kind_1 : decode cX7_kind 1 = .ok (.getfield 7, 3) := by decide +kernel
theorem dX7_kind_4 : decode cX7_kind 4 = .ok (.ireturn, 1) := by decide +kernel
abbrev cX7_measure : ByteArray := prog_21_method_8_code
def yX7_measure : MethodName := ⟨RX7, "measure", "()I"⟩
theorem dX7_measure_0 : decode cX7_measure 0 = .ok (.aload_n 0, 1) := by decide +kernel
theorem dX7_measure_1 : decode cX7_measure 1 = .ok (.getfield 20, 3) := by decide +kernel
theorem dX7_measure_4 : decode cX7_measure 4 = .ok (.ireturn, 1) := by decide +kernel
abbrev cX7_parts : ByteArray := prog_21_method_7_code
def yX7_parts : MethodName := ⟨RX7, "parts", "()[I"⟩
theorem dX7_parts_0 : decode cX7_parts 0 = .ok (.aload_n 0, 1) := by decide +kernel
theorem dX7_parts_1 : decode cX7_parts 1 = .ok (.getfield 16, 3) := by decide +kernel
theorem dX7_parts_4 : decode cX7_parts 4 = .ok (.areturn, 1) := by decide +kernel
abbrev cX7_first : ByteArray := prog_21_method_6_code
def yX7_first : MethodName := ⟨RX7, "first", "()I"⟩
theorem dX7_first_0 : decode cX7_first 0 = .ok (.aload_n 0, 1) := by decide +kernel
theorem dX7_first_1 : decode cX7_first 1 = .ok (.getfield 13, 3) := by decide +kernel
theorem dX7_first_4 : decode cX7_first 4 = .ok (.ireturn, 1) := by decide +kernel
theorem q120 : (Jvm.Cond.initialized "Patternforge$Value") ∈ lw_all := lw_g (lw_at lw_m1 25 rfl) rfl
theorem q377 : (Jvm.Cond.selects "Patternforge$Value" ({ cls := "java/lang/Object", name := "getClass", desc := "()Ljava/lang/Class;" } : Jvm.MethodName) ({ cls := "java/lang/Object", name := "getClass", desc := "()Ljava/lang/Class;" } : Jvm.MethodName)) ∈ lw_all := lw_g (lw_at lw_m2 42 rfl) rfl
theorem q654 : (Jvm.Cond.instantiable "Patternforge$Value" (4 : Nat)) ∈ lw_all := lw_g (lw_at lw_m3 79 rfl) rfl
theorem q656 : (Jvm.Cond.instanceMethod ({ cls := "Patternforge$Value", name := "<init>", desc := "(II[II)V" } : Jvm.MethodName)) ∈ lw_all := lw_g (lw_at lw_m3 81 rfl) rfl
theorem q657 : (Jvm.Cond.code ({ cls := "Patternforge$Value", name := "<init>", desc := "(II[II)V" } : Jvm.MethodName) prog_21_method_1_code (5 : Nat) (Option.none : Option Jvm.ClassFile.FieldType)) ∈ lw_all := lw_g (lw_at lw_m3 82 rfl) rfl
theorem q658 : (Jvm.Cond.methodLink "Patternforge$Value" (1 : Nat) ({ cls := "java/lang/Record", name := "<init>", desc := "()V" } : Jvm.MethodName)) ∈ lw_all := lw_g (lw_at lw_m3 83 rfl) rfl
theorem q662 : (Jvm.Cond.fieldLink "Patternforge$Value" (7 : Nat) "Patternforge$Value" "kind" "I") ∈ lw_all := lw_g (lw_at lw_m3 87 rfl) rfl
theorem q663 : (Jvm.Cond.fieldLink "Patternforge$Value" (13 : Nat) "Patternforge$Value" "first" "I") ∈ lw_all := lw_g (lw_at lw_m3 88 rfl) rfl
theorem q664 : (Jvm.Cond.fieldLink "Patternforge$Value" (16 : Nat) "Patternforge$Value" "parts" "[I") ∈ lw_all := lw_g (lw_at lw_m3 89 rfl) rfl
theorem q665 : (Jvm.Cond.fieldLink "Patternforge$Value" (20 : Nat) "Patternforge$Value" "measure" "I") ∈ lw_all := lw_g (lw_at lw_m3 90 rfl) rfl
theorem q666 : (Jvm.Cond.laysFinal "Patternforge$Value" "Patternforge$Value" "kind" "I") ∈ lw_all := lw_g (lw_at lw_m3 91 rfl) rfl
theorem q667 : (Jvm.Cond.soleField "Patternforge$Value" "kind") ∈ lw_all := lw_g (lw_at lw_m3 92 rfl) rfl
theorem q668 : (Jvm.Cond.laysFinal "Patternforge$Value" "Patternforge$Value" "first" "I") ∈ lw_all := lw_g (lw_at lw_m3 93 rfl) rfl
theorem q669 : (Jvm.Cond.soleField "Patternforge$Value" "first") ∈ lw_all := lw_g (lw_at lw_m3 94 rfl) rfl
theorem q670 : (Jvm.Cond.laysFinal "Patternforge$Value" "Patternforge$Value" "parts" "[I") ∈ lw_all := lw_g (lw_at lw_m3 95 rfl) rfl
theorem q671 : (Jvm.Cond.soleField "Patternforge$Value" "parts") ∈ lw_all := lw_g (lw_at lw_m3 96 rfl) rfl
theorem q672 : (Jvm.Cond.laysFinal "Patternforge$Value" "Patternforge$Value" "measure" "I") ∈ lw_all := lw_g (lw_at lw_m3 97 rfl) rfl
theorem q673 : (Jvm.Cond.soleField "Patternforge$Value" "measure") ∈ lw_all := lw_g (lw_at lw_m3 98 rfl) rfl
theorem q674 : (Jvm.Cond.superclass "Patternforge$Value" "java/lang/Record") ∈ lw_all := lw_g (lw_at lw_m3 99 rfl) rfl
theorem q704 : (Jvm.Cond.instanceMethod ({ cls := "Patternforge$Value", name := "kind", desc := "()I" } : Jvm.MethodName)) ∈ lw_all := lw_g (lw_at lw_m3 129 rfl) rfl
theorem q705 : (Jvm.Cond.selects "Patternforge$Value" ({ cls := "Patternforge$Value", name := "kind", desc := "()I" } : Jvm.MethodName) ({ cls := "Patternforge$Value", name := "kind", desc := "()I" } : Jvm.MethodName)) ∈ lw_all := lw_g (lw_at lw_m3 130 rfl) rfl
theorem q706 : (Jvm.Cond.code ({ cls := "Patternforge$Value", name := "kind", desc := "()I" } : Jvm.MethodName) prog_21_method_5_code (1 : Nat) (Option.some Jvm.ClassFile.FieldType.int)) ∈ lw_all := lw_g (lw_at lw_m3 131 rfl) rfl
theorem q708 : (Jvm.Cond.instanceMethod ({ cls := "Patternforge$Value", name := "measure", desc := "()I" } : Jvm.MethodName)) ∈ lw_all := lw_g (lw_at lw_m3 133 rfl) rfl
theorem q709 : (Jvm.Cond.selects "Patternforge$Value" ({ cls := "Patternforge$Value", name := "measure", desc := "()I" } : Jvm.MethodName) ({ cls := "Patternforge$Value", name := "measure", desc := "()I" } : Jvm.MethodName)) ∈ lw_all := lw_g (lw_at lw_m3 134 rfl) rfl
theorem q710 : (Jvm.Cond.code ({ cls := "Patternforge$Value", name := "measure", desc := "()I" } : Jvm.MethodName) prog_21_method_8_code (1 : Nat) (Option.some Jvm.ClassFile.FieldType.int)) ∈ lw_all := lw_g (lw_at lw_m3 135 rfl) rfl
theorem q1413 : (Jvm.Cond.instanceMethod ({ cls := "Patternforge$Value", name := "parts", desc := "()[I" } : Jvm.MethodName)) ∈ lw_all := lw_g (lw_at lw_m6 118 rfl) rfl
theorem q1414 : (Jvm.Cond.selects "Patternforge$Value" ({ cls := "Patternforge$Value", name := "parts", desc := "()[I" } : Jvm.MethodName) ({ cls := "Patternforge$Value", name := "parts", desc := "()[I" } : Jvm.MethodName)) ∈ lw_all := lw_g (lw_at lw_m6 119 rfl) rfl
theorem q1415 : (Jvm.Cond.code ({ cls := "Patternforge$Value", name := "parts", desc := "()[I" } : Jvm.MethodName) prog_21_method_7_code (1 : Nat) (Option.some (Jvm.ClassFile.FieldType.array Jvm.ClassFile.FieldType.int))) ∈ lw_all := lw_g (lw_at lw_m6 120 rfl) rfl
theorem q1418 : (Jvm.Cond.instanceMethod ({ cls := "Patternforge$Value", name := "first", desc := "()I" } : Jvm.MethodName)) ∈ lw_all := lw_g (lw_at lw_m6 123 rfl) rfl
theorem q1419 : (Jvm.Cond.selects "Patternforge$Value" ({ cls := "Patternforge$Value", name := "first", desc := "()I" } : Jvm.MethodName) ({ cls := "Patternforge$Value", name := "first", desc := "()I" } : Jvm.MethodName)) ∈ lw_all := lw_g (lw_at lw_m6 124 rfl) rfl
theorem q1420 : (Jvm.Cond.code ({ cls := "Patternforge$Value", name := "first", desc := "()I" } : Jvm.MethodName) prog_21_method_6_code (1 : Nat) (Option.some Jvm.ClassFile.FieldType.int)) ∈ lw_all := lw_g (lw_at lw_m6 125 rfl) rfl
theorem q2312 : (Jvm.Cond.castable "Patternforge$Value" "java/lang/Object") ∈ lw_tbl := lw_at lw_m10 57 rfl
theorem in_X7 : ∀ w ∈ wsX70, w ∈ lw_all := lw_in wsX70 [666, 668, 670, 672] (by decide +kernel) (by decide +kernel)

/-! Patternforge$Any -/
set_option maxRecDepth 100000
def RX8 : String := "Patternforge$Any"
abbrev cX8_init : ByteArray := prog_2_method_1_code
def yX8_init : MethodName := ⟨RX8, "<init>", "()V"⟩
theorem dX8_init_0 : decode cX8_init 0 = .ok (.aload_n 0, 1) := by decide +kernel
theorem dX8_init_1 : decode cX8_init 1 = .ok (.invokespecial 1, 3) := by decide +kernel
theorem dX8_init_4 : decode cX8_init 4 = .ok (.return_, 1) := by decide +kernel
theorem q121 : (Jvm.Cond.initialized "Patternforge$Any") ∈ lw_all := lw_g (lw_at lw_m1 26 rfl) rfl
theorem q361 : (Jvm.Cond.selects "Patternforge$Any" ({ cls := "java/lang/Object", name := "getClass", desc := "()Ljava/lang/Class;" } : Jvm.MethodName) ({ cls := "java/lang/Object", name := "getClass", desc := "()Ljava/lang/Class;" } : Jvm.MethodName)) ∈ lw_all := lw_g (lw_at lw_m2 26 rfl) rfl
theorem q719 : (Jvm.Cond.instantiable "Patternforge$Any" (0 : Nat)) ∈ lw_all := lw_g (lw_at lw_m3 144 rfl) rfl
theorem q721 : (Jvm.Cond.instanceMethod ({ cls := "Patternforge$Any", name := "<init>", desc := "()V" } : Jvm.MethodName)) ∈ lw_all := lw_g (lw_at lw_m3 146 rfl) rfl
theorem q722 : (Jvm.Cond.code ({ cls := "Patternforge$Any", name := "<init>", desc := "()V" } : Jvm.MethodName) prog_2_method_1_code (1 : Nat) (Option.none : Option Jvm.ClassFile.FieldType)) ∈ lw_all := lw_g (lw_at lw_m3 147 rfl) rfl
theorem q723 : (Jvm.Cond.methodLink "Patternforge$Any" (1 : Nat) ({ cls := "java/lang/Record", name := "<init>", desc := "()V" } : Jvm.MethodName)) ∈ lw_all := lw_g (lw_at lw_m3 148 rfl) rfl
theorem q724 : (Jvm.Cond.superclass "Patternforge$Any" "java/lang/Record") ∈ lw_all := lw_g (lw_at lw_m3 149 rfl) rfl
theorem q2313 : (Jvm.Cond.castable "Patternforge$Any" "java/lang/Object") ∈ lw_tbl := lw_at lw_m10 58 rfl
theorem q2329 : (Jvm.Cond.castable "Patternforge$Any" "Patternforge$Pattern") ∈ lw_tbl := lw_at lw_m10 74 rfl

/-! Patternforge$Told -/
set_option maxRecDepth 100000
def RX9 : String := "Patternforge$Told"
def TX9 : u_T := fun k => match k with
  | 0 => ("Patternforge$Told", "pattern", "LPatternforge$Pattern;", true)
  | 1 => ("Patternforge$Told", "kind", "I", true)
  | 2 => ("Patternforge$Told", "names", "I", true)
  | 3 => ("Patternforge$Told", "depth", "I", true)
  | 4 => ("Patternforge$Told", "size", "I", true)
  | 5 => ("Patternforge$Told", "isPure", "Z", true)
  | _ => ("Patternforge$Told", "isForNumbers", "Z", true)
def tyX9 : Nat → FieldType := fun k => match k with
  | 0 => .object "Patternforge$Pattern"
  | 1 => .int
  | 2 => .int
  | 3 => .int
  | 4 => .int
  | 5 => .boolean
  | _ => .boolean
abbrev wsX90 : List Cond := u_ws RX9 TX9 7
theorem nmX9 : ∀ a, a < 7 → ∀ b, b < 7 → a ≠ b → (TX9 a).2.1 ≠ (TX9 b).2.1 := by decide +kernel
theorem tyX9_ok : ∀ k, k < 7 → parseFieldDescriptor (TX9 k).2.2.1 = some (tyX9 k) := by decide +kernel
abbrev cX9_init : ByteArray := prog_19_method_1_code
def yX9_init : MethodName := ⟨RX9, "<init>", "(LPatternforge$Pattern;IIIIZZ)V"⟩
def dkwX9_init_1 : List UInt8 := [181, 0, 22, 42, 21, 5, 181, 0, 25, 42, 21, 6, 181, 0, 28, 42, 21, 7, 181, 0, 32, 177]
abbrev dktX9_init_1 : List UInt8 := dkwX9_init_1 ++ []
def dkwX9_init_0 : List UInt8 := [42, 183, 0, 3, 42, 43, 181, 0, 9, 42, 28, 181, 0, 15, 42, 29, 181, 0, 19, 42, 21, 4]
abbrev dktX9_init_0 : List UInt8 := dkwX9_init_0 ++ dktX9_init_1
theorem dksX9_init_0 : cX9_init.data.toList.drop 0 = dktX9_init_0 := by decide +kernel
theorem dksX9_init_1 : cX9_init.data.toList.drop 22 = dktX9_init_1 := dk_seg dksX9_init_0 22 rfl rfl
theorem dX9_init_0 : decode cX9_init 0 = .ok (.aload_n 0, 1) := dk_42 (dk_at dksX9_init_0 0 rfl rfl)
theorem dX9_init_1 : decode cX9_init 1 = .ok (.invokespecial 3, 3) := dk_183 0 3 (dk_at dksX9_init_0 1 rfl rfl)
theorem dX9_init_4 : decode cX9_init 4 = .ok (.aload_n 0, 1) := dk_42 (dk_at dksX9_init_0 4 rfl rfl)
theorem dX9_init_5 : decode cX9_init 5 = .ok (.aload_n 1, 1) := dk_43 (dk_at dksX9_init_0 5 rfl rfl)
theorem dX9_init_6 : decode cX9_init 6 = .ok (.putfield 9, 3) := dk_181 0 9 (dk_at dksX9_init_0 6 rfl rfl)
theorem dX9_init_9 : decode cX9_init 9 = .ok (.aload_n 0, 1) := dk_42 (dk_at dksX9_init_0 9 rfl rfl)
theorem dX9_init_10 : decode cX9_init 10 = .ok (.iload_n 2, 1) := dk_28 (dk_at dksX9_init_0 10 rfl rfl)
theorem dX9_init_11 : decode cX9_init 11 = .ok (.putfield 15, 3) := dk_181 0 15 (dk_at dksX9_init_0 11 rfl rfl)
theorem dX9_init_14 : decode cX9_init 14 = .ok (.aload_n 0, 1) := dk_42 (dk_at dksX9_init_0 14 rfl rfl)
theorem dX9_init_15 : decode cX9_init 15 = .ok (.iload_n 3, 1) := dk_29 (dk_at dksX9_init_0 15 rfl rfl)
theorem dX9_init_16 : decode cX9_init 16 = .ok (.putfield 19, 3) := dk_181 0 19 (dk_at dksX9_init_0 16 rfl rfl)
theorem dX9_init_19 : decode cX9_init 19 = .ok (.aload_n 0, 1) := dk_42 (dk_at dksX9_init_0 19 rfl rfl)
theorem dX9_init_20 : decode cX9_init 20 = .ok (.iload 4, 2) := dk_21 4 (dk_at dksX9_init_0 20 rfl rfl)
theorem dX9_init_22 : decode cX9_init 22 = .ok (.putfield 22, 3) := dk_181 0 22 (dk_at dksX9_init_1 0 rfl rfl)
theorem dX9_init_25 : decode cX9_init 25 = .ok (.aload_n 0, 1) := dk_42 (dk_at dksX9_init_1 3 rfl rfl)
theorem dX9_init_26 : decode cX9_init 26 = .ok (.iload 5, 2) := dk_21 5 (dk_at dksX9_init_1 4 rfl rfl)
theorem dX9_init_28 : decode cX9_init 28 = .ok (.putfield 25, 3) := dk_181 0 25 (dk_at dksX9_init_1 6 rfl rfl)
theorem dX9_init_31 : decode cX9_init 31 = .ok (.aload_n 0, 1) := dk_42 (dk_at dksX9_init_1 9 rfl rfl)
theorem dX9_init_32 : decode cX9_init 32 = .ok (.iload 6, 2) := dk_21 6 (dk_at dksX9_init_1 10 rfl rfl)
theorem dX9_init_34 : decode cX9_init 34 = .ok (.putfield 28, 3) := dk_181 0 28 (dk_at dksX9_init_1 12 rfl rfl)
theorem dX9_init_37 : decode cX9_init 37 = .ok (.aload_n 0, 1) := dk_42 (dk_at dksX9_init_1 15 rfl rfl)
theorem dX9_init_38 : decode cX9_init 38 = .ok (.iload 7, 2) := dk_21 7 (dk_at dksX9_init_1 16 rfl rfl)
theorem dX9_init_40 : decode cX9_init 40 = .ok (.putfield 32, 3) := dk_181 0 32 (dk_at dksX9_init_1 18 rfl rfl)
theorem dX9_init_43 : decode cX9_init 43 = .ok (.return_, 1) := dk_177 (dk_at dksX9_init_1 21 rfl rfl)
abbrev cX9_names : ByteArray := prog_19_method_8_code
def yX9_names : MethodName := ⟨RX9, "names", "()I"⟩
theorem dX9_names_0 : decode cX9_names 0 = .ok (.aload_n 0, 1) := by decide +kernel
theorem dX9_names_1 : decode cX9_names 1 = .ok (.getfield 19, 3) := by decide +kernel
theorem dX9_names_4 : decode cX9_names 4 = .ok (.ireturn, 1) := by decide +kernel
abbrev cX9_pattern : ByteArray := prog_19_method_6_code
def yX9_pattern : MethodName := ⟨RX9, "pattern", "()LPatternforge$Pattern;"⟩
theorem dX9_pattern_0 : decode cX9_pattern 0 = .ok (.aload_n 0, 1) := by decide +kernel
theorem dX9_pattern_1 : decode cX9_pattern 1 = .ok (.getfield 9, 3) := by decide +kernel
theorem dX9_pattern_4 : decode cX9_pattern 4 = .ok (.areturn, 1) := by decide +kernel
abbrev cX9_kind : ByteArray := prog_19_method_7_code
def yX9_kind : MethodName := ⟨RX9, "kind", "()I"⟩
theorem dX9_kind_0 : decode cX9_kind 0 = .ok (.aload_n 0, 1) := by decide +kernel
theorem dX9_kind_1 : decode cX9_kind 1 = .ok (.getfield 15, 3) := by decide +kernel
theorem dX9_kind_4 : decode cX9_kind 4 = .ok (.ireturn, 1) := by decide +kernel
abbrev cX9_depth : ByteArray := prog_19_method_9_code
def yX9_depth : MethodName := ⟨RX9, "depth", "()I"⟩
theorem dX9_depth_0 : decode cX9_depth 0 = .ok (.aload_n 0, 1) := by decide +kernel
theorem dX9_depth_1 : decode cX9_depth 1 = .ok (.getfield 22, 3) := by decide +kernel
theorem dX9_depth_4 : decode cX9_depth 4 = .ok (.ireturn, 1) := by decide +kernel
abbrev cX9_size : ByteArray := prog_19_method_10_code
def yX9_size : MethodName := ⟨RX9, "size", "()I"⟩
theorem dX9_size_0 : decode cX9_size 0 = .ok (.aload_n 0, 1) := by decide +kernel
theorem dX9_size_1 : decode cX9_size 1 = .ok (.getfield 25, 3) := by decide +kernel
theorem dX9_size_4 : decode cX9_size 4 = .ok (.ireturn, 1) := by decide +kernel
abbrev cX9_isPure : ByteArray := prog_19_method_11_code
def yX9_isPure : MethodName := ⟨RX9, "isPure", "()Z"⟩
theorem dX9_isPure_0 : decode cX9_isPure 0 = .ok (.aload_n 0, 1) := by decide +kernel
theorem dX9_isPure_1 : decode cX9_isPure 1 = .ok (.getfield 28, 3) := by decide +kernel
theorem dX9_isPure_4 : decode cX9_isPure 4 = .ok (.ireturn, 1) := by decide +kernel
abbrev cX9_fits : ByteArray := prog_19_method_2_code
def yX9_fits : MethodName := ⟨RX9, "fits", "(I)Z"⟩
def dkwX9_fits_0 : List UInt8 := [42, 180, 0, 15, 2, 159, 0, 11, 42, 180, 0, 15, 27, 160, 0, 7, 4, 167, 0, 4, 3, 172]
abbrev dktX9_fits_0 : List UInt8 := dkwX9_fits_0 ++ []
theorem dksX9_fits_0 : cX9_fits.data.toList.drop 0 = dktX9_fits_0 := by decide +kernel
theorem dX9_fits_0 : decode cX9_fits 0 = .ok (.aload_n 0, 1) := dk_42 (dk_at dksX9_fits_0 0 rfl rfl)
theorem dX9_fits_1 : decode cX9_fits 1 = .ok (.getfield 15, 3) := dk_180 0 15 (dk_at dksX9_fits_0 1 rfl rfl)
theorem dX9_fits_4 : decode cX9_fits 4 = .ok (.iconst (-1), 1) := dk_2 (dk_at dksX9_fits_0 4 rfl rfl)
theorem dX9_fits_5 : decode cX9_fits 5 = .ok (.if_icmp .eq 11, 3) := dk_159 0 11 (dk_at dksX9_fits_0 5 rfl rfl)
theorem dX9_fits_8 : decode cX9_fits 8 = .ok (.aload_n 0, 1) := dk_42 (dk_at dksX9_fits_0 8 rfl rfl)
theorem dX9_fits_9 : decode cX9_fits 9 = .ok (.getfield 15, 3) := dk_180 0 15 (dk_at dksX9_fits_0 9 rfl rfl)
theorem dX9_fits_12 : decode cX9_fits 12 = .ok (.iload_n 1, 1) := dk_27 (dk_at dksX9_fits_0 12 rfl rfl)
theorem dX9_fits_13 : decode cX9_fits 13 = .ok (.if_icmp .ne 7, 3) := dk_160 0 7 (dk_at dksX9_fits_0 13 rfl rfl)
theorem dX9_fits_16 : decode cX9_fits 16 = .ok (.iconst 1, 1) := dk_4 (dk_at dksX9_fits_0 16 rfl rfl)
theorem dX9_fits_17 : decode cX9_fits 17 = .ok (.goto 4, 3) := dk_167 0 4 (dk_at dksX9_fits_0 17 rfl rfl)
theorem dX9_fits_20 : decode cX9_fits 20 = .ok (.iconst 0, 1) := dk_3 (dk_at dksX9_fits_0 20 rfl rfl)
theorem dX9_fits_21 : decode cX9_fits 21 = .ok (.ireturn, 1) := dk_172 (dk_at dksX9_fits_0 21 rfl rfl)
abbrev cX9_isForNumbers : ByteArray := prog_19_method_12_code
def yX9_isForNumbers : MethodName := ⟨RX9, "isForNumbers", "()Z"⟩
theorem dX9_isForNumbers_0 : decode cX9_isForNumbers 0 = .ok (.aload_n 0, 1) := by decide +kernel
theorem dX9_isForNumbers_1 : decode cX9_isForNumbers 1 = .ok (.getfield 32, 3) := by decide +kernel
theorem dX9_isForNumbers_4 : decode cX9_isForNumbers 4 = .ok (.ireturn, 1) := by decide +kernel
theorem q122 : (Jvm.Cond.initialized "Patternforge$Told") ∈ lw_all := lw_g (lw_at lw_m1 27 rfl) rfl
theorem q375 : (Jvm.Cond.selects "Patternforge$Told" ({ cls := "java/lang/Object", name := "getClass", desc := "()Ljava/lang/Class;" } : Jvm.MethodName) ({ cls := "java/lang/Object", name := "getClass", desc := "()Ljava/lang/Class;" } : Jvm.MethodName)) ∈ lw_all := lw_g (lw_at lw_m2 40 rfl) rfl
theorem q730 : (Jvm.Cond.instantiable "Patternforge$Told" (7 : Nat)) ∈ lw_all := lw_g (lw_at lw_m3 155 rfl) rfl
theorem q732 : (Jvm.Cond.instanceMethod ({ cls := "Patternforge$Told", name := "<init>", desc := "(LPatternforge$Pattern;IIIIZZ)V" } : Jvm.MethodName)) ∈ lw_all := lw_g (lw_at lw_m3 157 rfl) rfl
theorem q733 : (Jvm.Cond.code ({ cls := "Patternforge$Told", name := "<init>", desc := "(LPatternforge$Pattern;IIIIZZ)V" } : Jvm.MethodName) prog_19_method_1_code (8 : Nat) (Option.none : Option Jvm.ClassFile.FieldType)) ∈ lw_all := lw_g (lw_at lw_m3 158 rfl) rfl
theorem q734 : (Jvm.Cond.methodLink "Patternforge$Told" (3 : Nat) ({ cls := "java/lang/Record", name := "<init>", desc := "()V" } : Jvm.MethodName)) ∈ lw_all := lw_g (lw_at lw_m3 159 rfl) rfl
theorem q735 : (Jvm.Cond.fieldLink "Patternforge$Told" (9 : Nat) "Patternforge$Told" "pattern" "LPatternforge$Pattern;") ∈ lw_all := lw_g (lw_at lw_m3 160 rfl) rfl
theorem q736 : (Jvm.Cond.fieldLink "Patternforge$Told" (15 : Nat) "Patternforge$Told" "kind" "I") ∈ lw_all := lw_g (lw_at lw_m3 161 rfl) rfl
theorem q737 : (Jvm.Cond.fieldLink "Patternforge$Told" (19 : Nat) "Patternforge$Told" "names" "I") ∈ lw_all := lw_g (lw_at lw_m3 162 rfl) rfl
theorem q738 : (Jvm.Cond.fieldLink "Patternforge$Told" (22 : Nat) "Patternforge$Told" "depth" "I") ∈ lw_all := lw_g (lw_at lw_m3 163 rfl) rfl
theorem q739 : (Jvm.Cond.fieldLink "Patternforge$Told" (25 : Nat) "Patternforge$Told" "size" "I") ∈ lw_all := lw_g (lw_at lw_m3 164 rfl) rfl
theorem q740 : (Jvm.Cond.fieldLink "Patternforge$Told" (28 : Nat) "Patternforge$Told" "isPure" "Z") ∈ lw_all := lw_g (lw_at lw_m3 165 rfl) rfl
theorem q741 : (Jvm.Cond.fieldLink "Patternforge$Told" (32 : Nat) "Patternforge$Told" "isForNumbers" "Z") ∈ lw_all := lw_g (lw_at lw_m3 166 rfl) rfl
theorem q742 : (Jvm.Cond.laysFinal "Patternforge$Told" "Patternforge$Told" "pattern" "LPatternforge$Pattern;") ∈ lw_all := lw_g (lw_at lw_m3 167 rfl) rfl
theorem q743 : (Jvm.Cond.soleField "Patternforge$Told" "pattern") ∈ lw_all := lw_g (lw_at lw_m3 168 rfl) rfl
theorem q744 : (Jvm.Cond.laysFinal "Patternforge$Told" "Patternforge$Told" "kind" "I") ∈ lw_all := lw_g (lw_at lw_m3 169 rfl) rfl
theorem q745 : (Jvm.Cond.soleField "Patternforge$Told" "kind") ∈ lw_all := lw_g (lw_at lw_m3 170 rfl) rfl
theorem q746 : (Jvm.Cond.laysFinal "Patternforge$Told" "Patternforge$Told" "names" "I") ∈ lw_all := lw_g (lw_at lw_m3 171 rfl) rfl
theorem q747 : (Jvm.Cond.soleField "Patternforge$Told" "names") ∈ lw_all := lw_g (lw_at lw_m3 172 rfl) rfl
theorem q748 : (Jvm.Cond.laysFinal "Patternforge$Told" "Patternforge$Told" "depth" "I") ∈ lw_all := lw_g (lw_at lw_m3 173 rfl) rfl
theorem q749 : (Jvm.Cond.soleField "Patternforge$Told" "depth") ∈ lw_all := lw_g (lw_at lw_m3 174 rfl) rfl
theorem q750 : (Jvm.Cond.laysFinal "Patternforge$Told" "Patternforge$Told" "size" "I") ∈ lw_all := lw_g (lw_at lw_m3 175 rfl) rfl
theorem q751 : (Jvm.Cond.soleField "Patternforge$Told" "size") ∈ lw_all := lw_g (lw_at lw_m3 176 rfl) rfl
theorem q752 : (Jvm.Cond.laysFinal "Patternforge$Told" "Patternforge$Told" "isPure" "Z") ∈ lw_all := lw_g (lw_at lw_m3 177 rfl) rfl
theorem q753 : (Jvm.Cond.soleField "Patternforge$Told" "isPure") ∈ lw_all := lw_g (lw_at lw_m3 178 rfl) rfl
theorem q754 : (Jvm.Cond.laysFinal "Patternforge$Told" "Patternforge$Told" "isForNumbers" "Z") ∈ lw_all := lw_g (lw_at lw_m3 179 rfl) rfl
theorem q755 : (Jvm.Cond.soleField "Patternforge$Told" "isForNumbers") ∈ lw_all := lw_g (lw_at lw_m3 180 rfl) rfl
theorem q756 : (Jvm.Cond.superclass "Patternforge$Told" "java/lang/Record") ∈ lw_all := lw_g (lw_at lw_m3 181 rfl) rfl
theorem q773 : (Jvm.Cond.instanceMethod ({ cls := "Patternforge$Told", name := "names", desc := "()I" } : Jvm.MethodName)) ∈ lw_all := lw_g (lw_at lw_m3 198 rfl) rfl
theorem q774 : (Jvm.Cond.selects "Patternforge$Told" ({ cls := "Patternforge$Told", name := "names", desc := "()I" } : Jvm.MethodName) ({ cls := "Patternforge$Told", name := "names", desc := "()I" } : Jvm.MethodName)) ∈ lw_all := lw_g (lw_at lw_m3 199 rfl) rfl
theorem q775 : (Jvm.Cond.code ({ cls := "Patternforge$Told", name := "names", desc := "()I" } : Jvm.MethodName) prog_19_method_8_code (1 : Nat) (Option.some Jvm.ClassFile.FieldType.int)) ∈ lw_all := lw_g (lw_at lw_m3 200 rfl) rfl
theorem q782 : (Jvm.Cond.instanceMethod ({ cls := "Patternforge$Told", name := "pattern", desc := "()LPatternforge$Pattern;" } : Jvm.MethodName)) ∈ lw_all := lw_g (lw_at lw_m3 207 rfl) rfl
theorem q783 : (Jvm.Cond.selects "Patternforge$Told" ({ cls := "Patternforge$Told", name := "pattern", desc := "()LPatternforge$Pattern;" } : Jvm.MethodName) ({ cls := "Patternforge$Told", name := "pattern", desc := "()LPatternforge$Pattern;" } : Jvm.MethodName)) ∈ lw_all := lw_g (lw_at lw_m3 208 rfl) rfl
theorem q784 : (Jvm.Cond.code ({ cls := "Patternforge$Told", name := "pattern", desc := "()LPatternforge$Pattern;" } : Jvm.MethodName) prog_19_method_6_code (1 : Nat) (Option.some (Jvm.ClassFile.FieldType.object "Patternforge$Pattern"))) ∈ lw_all := lw_g (lw_at lw_m3 209 rfl) rfl
theorem q797 : (Jvm.Cond.instanceMethod ({ cls := "Patternforge$Told", name := "kind", desc := "()I" } : Jvm.MethodName)) ∈ lw_all := lw_g (lw_at lw_m3 222 rfl) rfl
theorem q798 : (Jvm.Cond.selects "Patternforge$Told" ({ cls := "Patternforge$Told", name := "kind", desc := "()I" } : Jvm.MethodName) ({ cls := "Patternforge$Told", name := "kind", desc := "()I" } : Jvm.MethodName)) ∈ lw_all := lw_g (lw_at lw_m3 223 rfl) rfl
theorem q799 : (Jvm.Cond.code ({ cls := "Patternforge$Told", name := "kind", desc := "()I" } : Jvm.MethodName) prog_19_method_7_code (1 : Nat) (Option.some Jvm.ClassFile.FieldType.int)) ∈ lw_all := lw_g (lw_at lw_m3 224 rfl) rfl
theorem q801 : (Jvm.Cond.instanceMethod ({ cls := "Patternforge$Told", name := "depth", desc := "()I" } : Jvm.MethodName)) ∈ lw_all := lw_g (lw_at lw_m3 226 rfl) rfl
theorem q802 : (Jvm.Cond.selects "Patternforge$Told" ({ cls := "Patternforge$Told", name := "depth", desc := "()I" } : Jvm.MethodName) ({ cls := "Patternforge$Told", name := "depth", desc := "()I" } : Jvm.MethodName)) ∈ lw_all := lw_g (lw_at lw_m3 227 rfl) rfl
theorem q803 : (Jvm.Cond.code ({ cls := "Patternforge$Told", name := "depth", desc := "()I" } : Jvm.MethodName) prog_19_method_9_code (1 : Nat) (Option.some Jvm.ClassFile.FieldType.int)) ∈ lw_all := lw_g (lw_at lw_m3 228 rfl) rfl
theorem q805 : (Jvm.Cond.instanceMethod ({ cls := "Patternforge$Told", name := "size", desc := "()I" } : Jvm.MethodName)) ∈ lw_all := lw_g (lw_at lw_m3 230 rfl) rfl
theorem q806 : (Jvm.Cond.selects "Patternforge$Told" ({ cls := "Patternforge$Told", name := "size", desc := "()I" } : Jvm.MethodName) ({ cls := "Patternforge$Told", name := "size", desc := "()I" } : Jvm.MethodName)) ∈ lw_all := lw_g (lw_at lw_m3 231 rfl) rfl
theorem q807 : (Jvm.Cond.code ({ cls := "Patternforge$Told", name := "size", desc := "()I" } : Jvm.MethodName) prog_19_method_10_code (1 : Nat) (Option.some Jvm.ClassFile.FieldType.int)) ∈ lw_all := lw_g (lw_at lw_m3 232 rfl) rfl
theorem q809 : (Jvm.Cond.instanceMethod ({ cls := "Patternforge$Told", name := "isPure", desc := "()Z" } : Jvm.MethodName)) ∈ lw_all := lw_g (lw_at lw_m3 234 rfl) rfl
theorem q810 : (Jvm.Cond.selects "Patternforge$Told" ({ cls := "Patternforge$Told", name := "isPure", desc := "()Z" } : Jvm.MethodName) ({ cls := "Patternforge$Told", name := "isPure", desc := "()Z" } : Jvm.MethodName)) ∈ lw_all := lw_g (lw_at lw_m3 235 rfl) rfl
theorem q811 : (Jvm.Cond.code ({ cls := "Patternforge$Told", name := "isPure", desc := "()Z" } : Jvm.MethodName) prog_19_method_11_code (1 : Nat) (Option.some Jvm.ClassFile.FieldType.boolean)) ∈ lw_all := lw_g (lw_at lw_m3 236 rfl) rfl
theorem q848 : (Jvm.Cond.instanceMethod ({ cls := "Patternforge$Told", name := "fits", desc := "(I)Z" } : Jvm.MethodName)) ∈ lw_all := lw_g (lw_at lw_m4 33 rfl) rfl
theorem q849 : (Jvm.Cond.selects "Patternforge$Told" ({ cls := "Patternforge$Told", name := "fits", desc := "(I)Z" } : Jvm.MethodName) ({ cls := "Patternforge$Told", name := "fits", desc := "(I)Z" } : Jvm.MethodName)) ∈ lw_all := lw_g (lw_at lw_m4 34 rfl) rfl
theorem q850 : (Jvm.Cond.code ({ cls := "Patternforge$Told", name := "fits", desc := "(I)Z" } : Jvm.MethodName) prog_19_method_2_code (2 : Nat) (Option.some Jvm.ClassFile.FieldType.boolean)) ∈ lw_all := lw_g (lw_at lw_m4 35 rfl) rfl
theorem q898 : (Jvm.Cond.instanceMethod ({ cls := "Patternforge$Told", name := "isForNumbers", desc := "()Z" } : Jvm.MethodName)) ∈ lw_all := lw_g (lw_at lw_m4 83 rfl) rfl
theorem q899 : (Jvm.Cond.selects "Patternforge$Told" ({ cls := "Patternforge$Told", name := "isForNumbers", desc := "()Z" } : Jvm.MethodName) ({ cls := "Patternforge$Told", name := "isForNumbers", desc := "()Z" } : Jvm.MethodName)) ∈ lw_all := lw_g (lw_at lw_m4 84 rfl) rfl
theorem q900 : (Jvm.Cond.code ({ cls := "Patternforge$Told", name := "isForNumbers", desc := "()Z" } : Jvm.MethodName) prog_19_method_12_code (1 : Nat) (Option.some Jvm.ClassFile.FieldType.boolean)) ∈ lw_all := lw_g (lw_at lw_m4 85 rfl) rfl
theorem q2314 : (Jvm.Cond.castable "Patternforge$Told" "java/lang/Object") ∈ lw_tbl := lw_at lw_m10 59 rfl
theorem in_X9 : ∀ w ∈ wsX90, w ∈ lw_all := lw_in wsX90 [742, 744, 746, 748, 750, 752, 754] (by decide +kernel) (by decide +kernel)

/-! Patternforge$Name -/
set_option maxRecDepth 100000
def RX10 : String := "Patternforge$Name"
def TX10 : u_T := fun k => match k with
  | 0 => ("Patternforge$Name", "name", "I", true)
  | _ => ("Patternforge$Name", "of", "LPatternforge$Pattern;", true)
def tyX10 : Nat → FieldType := fun k => match k with
  | 0 => .int
  | _ => .object "Patternforge$Pattern"
abbrev wsX100 : List Cond := u_ws RX10 TX10 2
theorem nmX10 : ∀ a, a < 2 → ∀ b, b < 2 → a ≠ b → (TX10 a).2.1 ≠ (TX10 b).2.1 := by decide +kernel
theorem tyX10_ok : ∀ k, k < 2 → parseFieldDescriptor (TX10 k).2.2.1 = some (tyX10 k) := by decide +kernel
abbrev cX10_init : ByteArray := prog_10_method_1_code
def yX10_init : MethodName := ⟨RX10, "<init>", "(ILPatternforge$Pattern;)V"⟩
def dkwX10_init_0 : List UInt8 := [42, 183, 0, 1, 42, 27, 181, 0, 7, 42, 44, 181, 0, 13, 177]
abbrev dktX10_init_0 : List UInt8 := dkwX10_init_0 ++ []
theorem dksX10_init_0 : cX10_init.data.toList.drop 0 = dktX10_init_0 := by decide +kernel
theorem dX10_init_0 : decode cX10_init 0 = .ok (.aload_n 0, 1) := dk_42 (dk_at dksX10_init_0 0 rfl rfl)
theorem dX10_init_1 : decode cX10_init 1 = .ok (.invokespecial 1, 3) := dk_183 0 1 (dk_at dksX10_init_0 1 rfl rfl)
theorem dX10_init_4 : decode cX10_init 4 = .ok (.aload_n 0, 1) := dk_42 (dk_at dksX10_init_0 4 rfl rfl)
theorem dX10_init_5 : decode cX10_init 5 = .ok (.iload_n 1, 1) := dk_27 (dk_at dksX10_init_0 5 rfl rfl)
theorem dX10_init_6 : decode cX10_init 6 = .ok (.putfield 7, 3) := dk_181 0 7 (dk_at dksX10_init_0 6 rfl rfl)
theorem dX10_init_9 : decode cX10_init 9 = .ok (.aload_n 0, 1) := dk_42 (dk_at dksX10_init_0 9 rfl rfl)
theorem dX10_init_10 : decode cX10_init 10 = .ok (.aload_n 2, 1) := dk_44 (dk_at dksX10_init_0 10 rfl rfl)
theorem dX10_init_11 : decode cX10_init 11 = .ok (.putfield 13, 3) := dk_181 0 13 (dk_at dksX10_init_0 11 rfl rfl)
theorem dX10_init_14 : decode cX10_init 14 = .ok (.return_, 1) := dk_177 (dk_at dksX10_init_0 14 rfl rfl)
abbrev cX10_name : ByteArray := prog_10_method_5_code
def yX10_name : MethodName := ⟨RX10, "name", "()I"⟩
theorem dX10_name_0 : decode cX10_name 0 = .ok (.aload_n 0, 1) := by decide +kernel
theorem dX10_name_1 : decode cX10_name 1 = .ok (.getfield 7, 3) := by decide +kernel
theorem dX10_name_4 : decode cX10_name 4 = .ok (.ireturn, 1) := by decide +kernel
abbrev cX10_of : ByteArray := prog_10_method_6_code
def yX10_of : MethodName := ⟨RX10, "of", "()LPatternforge$Pattern;"⟩
theorem dX10_of_0 : decode cX10_of 0 = .ok (.aload_n 0, 1) := by decide +kernel
theorem dX10_of_1 : decode cX10_of 1 = .ok (.getfield 13, 3) := by decide +kernel
theorem dX10_of_4 : decode cX10_of 4 = .ok (.areturn, 1) := by decide +kernel
theorem q123 : (Jvm.Cond.initialized "Patternforge$Name") ∈ lw_all := lw_g (lw_at lw_m1 28 rfl) rfl
theorem q368 : (Jvm.Cond.selects "Patternforge$Name" ({ cls := "java/lang/Object", name := "getClass", desc := "()Ljava/lang/Class;" } : Jvm.MethodName) ({ cls := "java/lang/Object", name := "getClass", desc := "()Ljava/lang/Class;" } : Jvm.MethodName)) ∈ lw_all := lw_g (lw_at lw_m2 33 rfl) rfl
theorem q780 : (Jvm.Cond.instantiable "Patternforge$Name" (2 : Nat)) ∈ lw_all := lw_g (lw_at lw_m3 205 rfl) rfl
theorem q786 : (Jvm.Cond.instanceMethod ({ cls := "Patternforge$Name", name := "<init>", desc := "(ILPatternforge$Pattern;)V" } : Jvm.MethodName)) ∈ lw_all := lw_g (lw_at lw_m3 211 rfl) rfl
theorem q787 : (Jvm.Cond.code ({ cls := "Patternforge$Name", name := "<init>", desc := "(ILPatternforge$Pattern;)V" } : Jvm.MethodName) prog_10_method_1_code (3 : Nat) (Option.none : Option Jvm.ClassFile.FieldType)) ∈ lw_all := lw_g (lw_at lw_m3 212 rfl) rfl
theorem q788 : (Jvm.Cond.methodLink "Patternforge$Name" (1 : Nat) ({ cls := "java/lang/Record", name := "<init>", desc := "()V" } : Jvm.MethodName)) ∈ lw_all := lw_g (lw_at lw_m3 213 rfl) rfl
theorem q789 : (Jvm.Cond.fieldLink "Patternforge$Name" (7 : Nat) "Patternforge$Name" "name" "I") ∈ lw_all := lw_g (lw_at lw_m3 214 rfl) rfl
theorem q790 : (Jvm.Cond.fieldLink "Patternforge$Name" (13 : Nat) "Patternforge$Name" "of" "LPatternforge$Pattern;") ∈ lw_all := lw_g (lw_at lw_m3 215 rfl) rfl
theorem q791 : (Jvm.Cond.laysFinal "Patternforge$Name" "Patternforge$Name" "name" "I") ∈ lw_all := lw_g (lw_at lw_m3 216 rfl) rfl
theorem q792 : (Jvm.Cond.soleField "Patternforge$Name" "name") ∈ lw_all := lw_g (lw_at lw_m3 217 rfl) rfl
theorem q793 : (Jvm.Cond.laysFinal "Patternforge$Name" "Patternforge$Name" "of" "LPatternforge$Pattern;") ∈ lw_all := lw_g (lw_at lw_m3 218 rfl) rfl
theorem q794 : (Jvm.Cond.soleField "Patternforge$Name" "of") ∈ lw_all := lw_g (lw_at lw_m3 219 rfl) rfl
theorem q795 : (Jvm.Cond.superclass "Patternforge$Name" "java/lang/Record") ∈ lw_all := lw_g (lw_at lw_m3 220 rfl) rfl
theorem q1025 : (Jvm.Cond.instanceMethod ({ cls := "Patternforge$Name", name := "name", desc := "()I" } : Jvm.MethodName)) ∈ lw_all := lw_g (lw_at lw_m4 210 rfl) rfl
theorem q1026 : (Jvm.Cond.selects "Patternforge$Name" ({ cls := "Patternforge$Name", name := "name", desc := "()I" } : Jvm.MethodName) ({ cls := "Patternforge$Name", name := "name", desc := "()I" } : Jvm.MethodName)) ∈ lw_all := lw_g (lw_at lw_m4 211 rfl) rfl
theorem q1027 : (Jvm.Cond.code ({ cls := "Patternforge$Name", name := "name", desc := "()I" } : Jvm.MethodName) prog_10_method_5_code (1 : Nat) (Option.some Jvm.ClassFile.FieldType.int)) ∈ lw_all := lw_g (lw_at lw_m4 212 rfl) rfl
theorem q1029 : (Jvm.Cond.instanceMethod ({ cls := "Patternforge$Name", name := "of", desc := "()LPatternforge$Pattern;" } : Jvm.MethodName)) ∈ lw_all := lw_g (lw_at lw_m4 214 rfl) rfl
theorem q1030 : (Jvm.Cond.selects "Patternforge$Name" ({ cls := "Patternforge$Name", name := "of", desc := "()LPatternforge$Pattern;" } : Jvm.MethodName) ({ cls := "Patternforge$Name", name := "of", desc := "()LPatternforge$Pattern;" } : Jvm.MethodName)) ∈ lw_all := lw_g (lw_at lw_m4 215 rfl) rfl
theorem q1031 : (Jvm.Cond.code ({ cls := "Patternforge$Name", name := "of", desc := "()LPatternforge$Pattern;" } : Jvm.MethodName) prog_10_method_6_code (1 : Nat) (Option.some (Jvm.ClassFile.FieldType.object "Patternforge$Pattern"))) ∈ lw_all := lw_g (lw_at lw_m4 216 rfl) rfl
theorem q2315 : (Jvm.Cond.castable "Patternforge$Name" "java/lang/Object") ∈ lw_tbl := lw_at lw_m10 60 rfl
theorem q2330 : (Jvm.Cond.castable "Patternforge$Name" "Patternforge$Pattern") ∈ lw_tbl := lw_at lw_m10 75 rfl
theorem in_X10 : ∀ w ∈ wsX100, w ∈ lw_all := lw_in wsX100 [791, 793] (by decide +kernel) (by decide +kernel)

/-! Patternforge$Range -/
set_option maxRecDepth 100000
def RX11 : String := "Patternforge$Range"
def TX11 : u_T := fun k => match k with
  | 0 => ("Patternforge$Range", "from", "I", true)
  | _ => ("Patternforge$Range", "to", "I", true)
def tyX11 : Nat → FieldType := fun k => match k with
  | 0 => .int
  | _ => .int
abbrev wsX110 : List Cond := u_ws RX11 TX11 2
theorem nmX11 : ∀ a, a < 2 → ∀ b, b < 2 → a ≠ b → (TX11 a).2.1 ≠ (TX11 b).2.1 := by decide +kernel
theorem tyX11_ok : ∀ k, k < 2 → parseFieldDescriptor (TX11 k).2.2.1 = some (tyX11 k) := by decide +kernel
abbrev cX11_init : ByteArray := prog_12_method_1_code
def yX11_init : MethodName := ⟨RX11, "<init>", "(II)V"⟩
def dkwX11_init_0 : List UInt8 := [42, 183, 0, 1, 42, 27, 181, 0, 7, 42, 28, 181, 0, 13, 177]
abbrev dktX11_init_0 : List UInt8 := dkwX11_init_0 ++ []
theorem dksX11_init_0 : cX11_init.data.toList.drop 0 = dktX11_init_0 := by decide +kernel
theorem dX11_init_0 : decode cX11_init 0 = .ok (.aload_n 0, 1) := dk_42 (dk_at dksX11_init_0 0 rfl rfl)
theorem dX11_init_1 : decode cX11_init 1 = .ok (.invokespecial 1, 3) := dk_183 0 1 (dk_at dksX11_init_0 1 rfl rfl)
theorem dX11_init_4 : decode cX11_init 4 = .ok (.aload_n 0, 1) := dk_42 (dk_at dksX11_init_0 4 rfl rfl)
theorem dX11_init_5 : decode cX11_init 5 = .ok (.iload_n 1, 1) := dk_27 (dk_at dksX11_init_0 5 rfl rfl)
theorem dX11_init_6 : decode cX11_init 6 = .ok (.putfield 7, 3) := dk_181 0 7 (dk_at dksX11_init_0 6 rfl rfl)
theorem dX11_init_9 : decode cX11_init 9 = .ok (.aload_n 0, 1) := dk_42 (dk_at dksX11_init_0 9 rfl rfl)
theorem dX11_init_10 : decode cX11_init 10 = .ok (.iload_n 2, 1) := dk_28 (dk_at dksX11_init_0 10 rfl rfl)
theorem dX11_init_11 : decode cX11_init 11 = .ok (.putfield 13, 3) := dk_181 0 13 (dk_at dksX11_init_0 11 rfl rfl)
theorem dX11_init_14 : decode cX11_init 14 = .ok (.return_, 1) := dk_177 (dk_at dksX11_init_0 14 rfl rfl)
abbrev cX11_holds : ByteArray := prog_12_method_2_code
def yX11_holds : MethodName := ⟨RX11, "holds", "(I)Z"⟩
def dkwX11_holds_0 : List UInt8 := [27, 42, 180, 0, 7, 42, 180, 0, 13, 184, 0, 16, 172]
abbrev dktX11_holds_0 : List UInt8 := dkwX11_holds_0 ++ []
theorem dksX11_holds_0 : cX11_holds.data.toList.drop 0 = dktX11_holds_0 := by decide +kernel
theorem dX11_holds_0 : decode cX11_holds 0 = .ok (.iload_n 1, 1) := dk_27 (dk_at dksX11_holds_0 0 rfl rfl)
theorem dX11_holds_1 : decode cX11_holds 1 = .ok (.aload_n 0, 1) := dk_42 (dk_at dksX11_holds_0 1 rfl rfl)
theorem dX11_holds_2 : decode cX11_holds 2 = .ok (.getfield 7, 3) := dk_180 0 7 (dk_at dksX11_holds_0 2 rfl rfl)
theorem dX11_holds_5 : decode cX11_holds 5 = .ok (.aload_n 0, 1) := dk_42 (dk_at dksX11_holds_0 5 rfl rfl)
theorem dX11_holds_6 : decode cX11_holds 6 = .ok (.getfield 13, 3) := dk_180 0 13 (dk_at dksX11_holds_0 6 rfl rfl)
theorem dX11_holds_9 : decode cX11_holds 9 = .ok (.invokestatic 16, 3) := dk_184 0 16 (dk_at dksX11_holds_0 9 rfl rfl)
theorem dX11_holds_12 : decode cX11_holds 12 = .ok (.ireturn, 1) := dk_172 (dk_at dksX11_holds_0 12 rfl rfl)
abbrev cX11_from : ByteArray := prog_12_method_6_code
def yX11_from : MethodName := ⟨RX11, "from", "()I"⟩
theorem dX11_from_0 : decode cX11_from 0 = .ok (.aload_n 0, 1) := by decide +kernel
theorem dX11_from_1 : decode cX11_from 1 = .ok (.getfield 7, 3) := by decide +kernel
theorem dX11_from_4 : decode cX11_from 4 = .ok (.ireturn, 1) := by decide +kernel
abbrev cX11_to : ByteArray := prog_12_method_7_code
def yX11_to : MethodName := ⟨RX11, "to", "()I"⟩
theorem dX11_to_0 : decode cX11_to 0 = .ok (.aload_n 0, 1) := by decide +kernel
theorem dX11_to_1 : decode cX11_to 1 = .ok (.getfield 13, 3) := by decide +kernel
theorem dX11_to_4 : decode cX11_to 4 = .ok (.ireturn, 1) := by decide +kernel
theorem q124 : (Jvm.Cond.initialized "Patternforge$Range") ∈ lw_all := lw_g (lw_at lw_m1 29 rfl) rfl
theorem q369 : (Jvm.Cond.selects "Patternforge$Range" ({ cls := "java/lang/Object", name := "getClass", desc := "()Ljava/lang/Class;" } : Jvm.MethodName) ({ cls := "java/lang/Object", name := "getClass", desc := "()Ljava/lang/Class;" } : Jvm.MethodName)) ∈ lw_all := lw_g (lw_at lw_m2 34 rfl) rfl
theorem q820 : (Jvm.Cond.instantiable "Patternforge$Range" (2 : Nat)) ∈ lw_all := lw_g (lw_at lw_m4 5 rfl) rfl
theorem q822 : (Jvm.Cond.instanceMethod ({ cls := "Patternforge$Range", name := "<init>", desc := "(II)V" } : Jvm.MethodName)) ∈ lw_all := lw_g (lw_at lw_m4 7 rfl) rfl
theorem q823 : (Jvm.Cond.code ({ cls := "Patternforge$Range", name := "<init>", desc := "(II)V" } : Jvm.MethodName) prog_12_method_1_code (3 : Nat) (Option.none : Option Jvm.ClassFile.FieldType)) ∈ lw_all := lw_g (lw_at lw_m4 8 rfl) rfl
theorem q824 : (Jvm.Cond.methodLink "Patternforge$Range" (1 : Nat) ({ cls := "java/lang/Record", name := "<init>", desc := "()V" } : Jvm.MethodName)) ∈ lw_all := lw_g (lw_at lw_m4 9 rfl) rfl
theorem q825 : (Jvm.Cond.fieldLink "Patternforge$Range" (7 : Nat) "Patternforge$Range" "from" "I") ∈ lw_all := lw_g (lw_at lw_m4 10 rfl) rfl
theorem q826 : (Jvm.Cond.fieldLink "Patternforge$Range" (13 : Nat) "Patternforge$Range" "to" "I") ∈ lw_all := lw_g (lw_at lw_m4 11 rfl) rfl
theorem q827 : (Jvm.Cond.laysFinal "Patternforge$Range" "Patternforge$Range" "from" "I") ∈ lw_all := lw_g (lw_at lw_m4 12 rfl) rfl
theorem q828 : (Jvm.Cond.soleField "Patternforge$Range" "from") ∈ lw_all := lw_g (lw_at lw_m4 13 rfl) rfl
theorem q829 : (Jvm.Cond.laysFinal "Patternforge$Range" "Patternforge$Range" "to" "I") ∈ lw_all := lw_g (lw_at lw_m4 14 rfl) rfl
theorem q830 : (Jvm.Cond.soleField "Patternforge$Range" "to") ∈ lw_all := lw_g (lw_at lw_m4 15 rfl) rfl
theorem q831 : (Jvm.Cond.superclass "Patternforge$Range" "java/lang/Record") ∈ lw_all := lw_g (lw_at lw_m4 16 rfl) rfl
theorem q1433 : (Jvm.Cond.instanceMethod ({ cls := "Patternforge$Range", name := "holds", desc := "(I)Z" } : Jvm.MethodName)) ∈ lw_all := lw_g (lw_at lw_m6 138 rfl) rfl
theorem q1434 : (Jvm.Cond.selects "Patternforge$Range" ({ cls := "Patternforge$Range", name := "holds", desc := "(I)Z" } : Jvm.MethodName) ({ cls := "Patternforge$Range", name := "holds", desc := "(I)Z" } : Jvm.MethodName)) ∈ lw_all := lw_g (lw_at lw_m6 139 rfl) rfl
theorem q1435 : (Jvm.Cond.code ({ cls := "Patternforge$Range", name := "holds", desc := "(I)Z" } : Jvm.MethodName) prog_12_method_2_code (2 : Nat) (Option.some Jvm.ClassFile.FieldType.boolean)) ∈ lw_all := lw_g (lw_at lw_m6 140 rfl) rfl
theorem q1436 : (Jvm.Cond.methodLinkNest "Patternforge$Range" (16 : Nat) ({ cls := "Patternforge", name := "inRange", desc := "(III)Z" } : Jvm.MethodName) "Patternforge") ∈ lw_tbl := lw_at lw_m6 141 rfl
theorem q1582 : (Jvm.Cond.instanceMethod ({ cls := "Patternforge$Range", name := "from", desc := "()I" } : Jvm.MethodName)) ∈ lw_all := lw_g (lw_at lw_m7 47 rfl) rfl
theorem q1583 : (Jvm.Cond.selects "Patternforge$Range" ({ cls := "Patternforge$Range", name := "from", desc := "()I" } : Jvm.MethodName) ({ cls := "Patternforge$Range", name := "from", desc := "()I" } : Jvm.MethodName)) ∈ lw_all := lw_g (lw_at lw_m7 48 rfl) rfl
theorem q1584 : (Jvm.Cond.code ({ cls := "Patternforge$Range", name := "from", desc := "()I" } : Jvm.MethodName) prog_12_method_6_code (1 : Nat) (Option.some Jvm.ClassFile.FieldType.int)) ∈ lw_all := lw_g (lw_at lw_m7 49 rfl) rfl
theorem q1586 : (Jvm.Cond.instanceMethod ({ cls := "Patternforge$Range", name := "to", desc := "()I" } : Jvm.MethodName)) ∈ lw_all := lw_g (lw_at lw_m7 51 rfl) rfl
theorem q1587 : (Jvm.Cond.selects "Patternforge$Range" ({ cls := "Patternforge$Range", name := "to", desc := "()I" } : Jvm.MethodName) ({ cls := "Patternforge$Range", name := "to", desc := "()I" } : Jvm.MethodName)) ∈ lw_all := lw_g (lw_at lw_m7 52 rfl) rfl
theorem q1588 : (Jvm.Cond.code ({ cls := "Patternforge$Range", name := "to", desc := "()I" } : Jvm.MethodName) prog_12_method_7_code (1 : Nat) (Option.some Jvm.ClassFile.FieldType.int)) ∈ lw_all := lw_g (lw_at lw_m7 53 rfl) rfl
theorem q2316 : (Jvm.Cond.castable "Patternforge$Range" "java/lang/Object") ∈ lw_tbl := lw_at lw_m10 61 rfl
theorem q2331 : (Jvm.Cond.castable "Patternforge$Range" "Patternforge$Pattern") ∈ lw_tbl := lw_at lw_m10 76 rfl
theorem in_X11 : ∀ w ∈ wsX110, w ∈ lw_all := lw_in wsX110 [827, 829] (by decide +kernel) (by decide +kernel)

/-! Patternforge$Make -/
set_option maxRecDepth 100000
def RX12 : String := "Patternforge$Make"
def TX12 : u_T := fun k => match k with
  | 0 => ("Patternforge$Make", "type", "I", true)
  | 1 => ("Patternforge$Make", "constructor", "I", true)
  | _ => ("Patternforge$Make", "fields", "[LPatternforge$Pattern;", true)
def tyX12 : Nat → FieldType := fun k => match k with
  | 0 => .int
  | 1 => .int
  | _ => .array (.object "Patternforge$Pattern")
abbrev wsX120 : List Cond := u_ws RX12 TX12 3
theorem nmX12 : ∀ a, a < 3 → ∀ b, b < 3 → a ≠ b → (TX12 a).2.1 ≠ (TX12 b).2.1 := by decide +kernel
theorem tyX12_ok : ∀ k, k < 3 → parseFieldDescriptor (TX12 k).2.2.1 = some (tyX12 k) := by decide +kernel
abbrev cX12_init : ByteArray := prog_8_method_1_code
def yX12_init : MethodName := ⟨RX12, "<init>", "(II[LPatternforge$Pattern;)V"⟩
def dkwX12_init_0 : List UInt8 := [42, 183, 0, 1, 42, 27, 181, 0, 7, 42, 28, 181, 0, 13, 42, 45, 181, 0, 16, 177]
abbrev dktX12_init_0 : List UInt8 := dkwX12_init_0 ++ []
theorem dksX12_init_0 : cX12_init.data.toList.drop 0 = dktX12_init_0 := by decide +kernel
theorem dX12_init_0 : decode cX12_init 0 = .ok (.aload_n 0, 1) := dk_42 (dk_at dksX12_init_0 0 rfl rfl)
theorem dX12_init_1 : decode cX12_init 1 = .ok (.invokespecial 1, 3) := dk_183 0 1 (dk_at dksX12_init_0 1 rfl rfl)
theorem dX12_init_4 : decode cX12_init 4 = .ok (.aload_n 0, 1) := dk_42 (dk_at dksX12_init_0 4 rfl rfl)
theorem dX12_init_5 : decode cX12_init 5 = .ok (.iload_n 1, 1) := dk_27 (dk_at dksX12_init_0 5 rfl rfl)
theorem dX12_init_6 : decode cX12_init 6 = .ok (.putfield 7, 3) := dk_181 0 7 (dk_at dksX12_init_0 6 rfl rfl)
theorem dX12_init_9 : decode cX12_init 9 = .ok (.aload_n 0, 1) := dk_42 (dk_at dksX12_init_0 9 rfl rfl)
theorem dX12_init_10 : decode cX12_init 10 = .ok (.iload_n 2, 1) := dk_28 (dk_at dksX12_init_0 10 rfl rfl)
theorem dX12_init_11 : decode cX12_init 11 = .ok (.putfield 13, 3) := dk_181 0 13 (dk_at dksX12_init_0 11 rfl rfl)
theorem dX12_init_14 : decode cX12_init 14 = .ok (.aload_n 0, 1) := dk_42 (dk_at dksX12_init_0 14 rfl rfl)
theorem dX12_init_15 : decode cX12_init 15 = .ok (.aload_n 3, 1) := dk_45 (dk_at dksX12_init_0 15 rfl rfl)
theorem dX12_init_16 : decode cX12_init 16 = .ok (.putfield 16, 3) := dk_181 0 16 (dk_at dksX12_init_0 16 rfl rfl)
theorem dX12_init_19 : decode cX12_init 19 = .ok (.return_, 1) := dk_177 (dk_at dksX12_init_0 19 rfl rfl)
abbrev cX12_type : ByteArray := prog_8_method_5_code
def yX12_type : MethodName := ⟨RX12, "type", "()I"⟩
theorem dX12_type_0 : decode cX12_type 0 = .ok (.aload_n 0, 1) := by decide +kernel
theorem dX12_type_1 : decode cX12_type 1 = .ok (.getfield 7, 3) := by decide +kernel
theorem dX12_type_4 : decode cX12_type 4 = .ok (.ireturn, 1) := by decide +kernel
abbrev cX12_constructor : ByteArray := prog_8_method_6_code
def yX12_constructor : MethodName := ⟨RX12, "constructor", "()I"⟩
theorem dX12_constructor_0 : decode cX12_constructor 0 = .ok (.aload_n 0, 1) := by decide +kernel
theorem dX12_constructor_1 : decode cX12_constructor 1 = .ok (.getfield 13, 3) := by decide +kernel
theorem dX12_constructor_4 : decode cX12_constructor 4 = .ok (.ireturn, 1) := by decide +kernel
abbrev cX12_fields : ByteArray := prog_8_method_7_code
def yX12_fields : MethodName := ⟨RX12, "fields", "()[LPatternforge$Pattern;"⟩
theorem dX12_fields_0 : decode cX12_fields 0 = .ok (.aload_n 0, 1) := by decide +kernel
theorem dX12_fields_1 : decode cX12_fields 1 = .ok (.getfield 16, 3) := by decide +kernel
theorem dX12_fields_4 : decode cX12_fields 4 = .ok (.areturn, 1) := by decide +kernel
theorem q125 : (Jvm.Cond.initialized "Patternforge$Make") ∈ lw_all := lw_g (lw_at lw_m1 30 rfl) rfl
theorem q367 : (Jvm.Cond.selects "Patternforge$Make" ({ cls := "java/lang/Object", name := "getClass", desc := "()Ljava/lang/Class;" } : Jvm.MethodName) ({ cls := "java/lang/Object", name := "getClass", desc := "()Ljava/lang/Class;" } : Jvm.MethodName)) ∈ lw_all := lw_g (lw_at lw_m2 32 rfl) rfl
theorem q840 : (Jvm.Cond.instantiable "Patternforge$Make" (3 : Nat)) ∈ lw_all := lw_g (lw_at lw_m4 25 rfl) rfl
theorem q852 : (Jvm.Cond.instanceMethod ({ cls := "Patternforge$Make", name := "<init>", desc := "(II[LPatternforge$Pattern;)V" } : Jvm.MethodName)) ∈ lw_all := lw_g (lw_at lw_m4 37 rfl) rfl
theorem q853 : (Jvm.Cond.code ({ cls := "Patternforge$Make", name := "<init>", desc := "(II[LPatternforge$Pattern;)V" } : Jvm.MethodName) prog_8_method_1_code (4 : Nat) (Option.none : Option Jvm.ClassFile.FieldType)) ∈ lw_all := lw_g (lw_at lw_m4 38 rfl) rfl
theorem q854 : (Jvm.Cond.methodLink "Patternforge$Make" (1 : Nat) ({ cls := "java/lang/Record", name := "<init>", desc := "()V" } : Jvm.MethodName)) ∈ lw_all := lw_g (lw_at lw_m4 39 rfl) rfl
theorem q855 : (Jvm.Cond.fieldLink "Patternforge$Make" (7 : Nat) "Patternforge$Make" "type" "I") ∈ lw_all := lw_g (lw_at lw_m4 40 rfl) rfl
theorem q856 : (Jvm.Cond.fieldLink "Patternforge$Make" (13 : Nat) "Patternforge$Make" "constructor" "I") ∈ lw_all := lw_g (lw_at lw_m4 41 rfl) rfl
theorem q857 : (Jvm.Cond.fieldLink "Patternforge$Make" (16 : Nat) "Patternforge$Make" "fields" "[LPatternforge$Pattern;") ∈ lw_all := lw_g (lw_at lw_m4 42 rfl) rfl
theorem q858 : (Jvm.Cond.laysFinal "Patternforge$Make" "Patternforge$Make" "type" "I") ∈ lw_all := lw_g (lw_at lw_m4 43 rfl) rfl
theorem q859 : (Jvm.Cond.soleField "Patternforge$Make" "type") ∈ lw_all := lw_g (lw_at lw_m4 44 rfl) rfl
theorem q860 : (Jvm.Cond.laysFinal "Patternforge$Make" "Patternforge$Make" "constructor" "I") ∈ lw_all := lw_g (lw_at lw_m4 45 rfl) rfl
theorem q861 : (Jvm.Cond.soleField "Patternforge$Make" "constructor") ∈ lw_all := lw_g (lw_at lw_m4 46 rfl) rfl
theorem q862 : (Jvm.Cond.laysFinal "Patternforge$Make" "Patternforge$Make" "fields" "[LPatternforge$Pattern;") ∈ lw_all := lw_g (lw_at lw_m4 47 rfl) rfl
theorem q863 : (Jvm.Cond.soleField "Patternforge$Make" "fields") ∈ lw_all := lw_g (lw_at lw_m4 48 rfl) rfl
theorem q864 : (Jvm.Cond.superclass "Patternforge$Make" "java/lang/Record") ∈ lw_all := lw_g (lw_at lw_m4 49 rfl) rfl
theorem q1041 : (Jvm.Cond.instanceMethod ({ cls := "Patternforge$Make", name := "type", desc := "()I" } : Jvm.MethodName)) ∈ lw_all := lw_g (lw_at lw_m4 226 rfl) rfl
theorem q1042 : (Jvm.Cond.selects "Patternforge$Make" ({ cls := "Patternforge$Make", name := "type", desc := "()I" } : Jvm.MethodName) ({ cls := "Patternforge$Make", name := "type", desc := "()I" } : Jvm.MethodName)) ∈ lw_all := lw_g (lw_at lw_m4 227 rfl) rfl
theorem q1043 : (Jvm.Cond.code ({ cls := "Patternforge$Make", name := "type", desc := "()I" } : Jvm.MethodName) prog_8_method_5_code (1 : Nat) (Option.some Jvm.ClassFile.FieldType.int)) ∈ lw_all := lw_g (lw_at lw_m4 228 rfl) rfl
theorem q1045 : (Jvm.Cond.instanceMethod ({ cls := "Patternforge$Make", name := "constructor", desc := "()I" } : Jvm.MethodName)) ∈ lw_all := lw_g (lw_at lw_m4 230 rfl) rfl
theorem q1046 : (Jvm.Cond.selects "Patternforge$Make" ({ cls := "Patternforge$Make", name := "constructor", desc := "()I" } : Jvm.MethodName) ({ cls := "Patternforge$Make", name := "constructor", desc := "()I" } : Jvm.MethodName)) ∈ lw_all := lw_g (lw_at lw_m4 231 rfl) rfl
theorem q1047 : (Jvm.Cond.code ({ cls := "Patternforge$Make", name := "constructor", desc := "()I" } : Jvm.MethodName) prog_8_method_6_code (1 : Nat) (Option.some Jvm.ClassFile.FieldType.int)) ∈ lw_all := lw_g (lw_at lw_m4 232 rfl) rfl
theorem q1049 : (Jvm.Cond.instanceMethod ({ cls := "Patternforge$Make", name := "fields", desc := "()[LPatternforge$Pattern;" } : Jvm.MethodName)) ∈ lw_all := lw_g (lw_at lw_m4 234 rfl) rfl
theorem q1050 : (Jvm.Cond.selects "Patternforge$Make" ({ cls := "Patternforge$Make", name := "fields", desc := "()[LPatternforge$Pattern;" } : Jvm.MethodName) ({ cls := "Patternforge$Make", name := "fields", desc := "()[LPatternforge$Pattern;" } : Jvm.MethodName)) ∈ lw_all := lw_g (lw_at lw_m4 235 rfl) rfl
theorem q1051 : (Jvm.Cond.code ({ cls := "Patternforge$Make", name := "fields", desc := "()[LPatternforge$Pattern;" } : Jvm.MethodName) prog_8_method_7_code (1 : Nat) (Option.some (Jvm.ClassFile.FieldType.array (Jvm.ClassFile.FieldType.object "Patternforge$Pattern")))) ∈ lw_all := lw_g (lw_at lw_m4 236 rfl) rfl
theorem q2317 : (Jvm.Cond.castable "Patternforge$Make" "java/lang/Object") ∈ lw_tbl := lw_at lw_m10 62 rfl
theorem q2332 : (Jvm.Cond.castable "Patternforge$Make" "Patternforge$Pattern") ∈ lw_tbl := lw_at lw_m10 77 rfl
theorem in_X12 : ∀ w ∈ wsX120, w ∈ lw_all := lw_in wsX120 [858, 860, 862] (by decide +kernel) (by decide +kernel)

/-! Patternforge$Either -/
set_option maxRecDepth 100000
def RX13 : String := "Patternforge$Either"
def TX13 : u_T := fun k => match k with
  | 0 => ("Patternforge$Either", "first", "LPatternforge$Pattern;", true)
  | _ => ("Patternforge$Either", "second", "LPatternforge$Pattern;", true)
def tyX13 : Nat → FieldType := fun k => match k with
  | 0 => .object "Patternforge$Pattern"
  | _ => .object "Patternforge$Pattern"
abbrev wsX130 : List Cond := u_ws RX13 TX13 2
theorem nmX13 : ∀ a, a < 2 → ∀ b, b < 2 → a ≠ b → (TX13 a).2.1 ≠ (TX13 b).2.1 := by decide +kernel
theorem tyX13_ok : ∀ k, k < 2 → parseFieldDescriptor (TX13 k).2.2.1 = some (tyX13 k) := by decide +kernel
abbrev cX13_init : ByteArray := prog_5_method_1_code
def yX13_init : MethodName := ⟨RX13, "<init>", "(LPatternforge$Pattern;LPatternforge$Pattern;)V"⟩
def dkwX13_init_0 : List UInt8 := [42, 183, 0, 1, 42, 43, 181, 0, 7, 42, 44, 181, 0, 13, 177]
abbrev dktX13_init_0 : List UInt8 := dkwX13_init_0 ++ []
theorem dksX13_init_0 : cX13_init.data.toList.drop 0 = dktX13_init_0 := by decide +kernel
theorem dX13_init_0 : decode cX13_init 0 = .ok (.aload_n 0, 1) := dk_42 (dk_at dksX13_init_0 0 rfl rfl)
theorem dX13_init_1 : decode cX13_init 1 = .ok (.invokespecial 1, 3) := dk_183 0 1 (dk_at dksX13_init_0 1 rfl rfl)
theorem dX13_init_4 : decode cX13_init 4 = .ok (.aload_n 0, 1) := dk_42 (dk_at dksX13_init_0 4 rfl rfl)
theorem dX13_init_5 : decode cX13_init 5 = .ok (.aload_n 1, 1) := dk_43 (dk_at dksX13_init_0 5 rfl rfl)
theorem dX13_init_6 : decode cX13_init 6 = .ok (.putfield 7, 3) := dk_181 0 7 (dk_at dksX13_init_0 6 rfl rfl)
theorem dX13_init_9 : decode cX13_init 9 = .ok (.aload_n 0, 1) := dk_42 (dk_at dksX13_init_0 9 rfl rfl)
theorem dX13_init_10 : decode cX13_init 10 = .ok (.aload_n 2, 1) := dk_44 (dk_at dksX13_init_0 10 rfl rfl)
theorem dX13_init_11 : decode cX13_init 11 = .ok (.putfield 13, 3) := dk_181 0 13 (dk_at dksX13_init_0 11 rfl rfl)
theorem dX13_init_14 : decode cX13_init 14 = .ok (.return_, 1) := dk_177 (dk_at dksX13_init_0 14 rfl rfl)
abbrev cX13_first : ByteArray := prog_5_method_5_code
def yX13_first : MethodName := ⟨RX13, "first", "()LPatternforge$Pattern;"⟩
theorem dX13_first_0 : decode cX13_first 0 = .ok (.aload_n 0, 1) := by decide +kernel
theorem dX13_first_1 : decode cX13_first 1 = .ok (.getfield 7, 3) := by decide +kernel
theorem dX13_first_4 : decode cX13_first 4 = .ok (.areturn, 1) := by decide +kernel
abbrev cX13_second : ByteArray := prog_5_method_6_code
def yX13_second : MethodName := ⟨RX13, "second", "()LPatternforge$Pattern;"⟩
theorem dX13_second_0 : decode cX13_second 0 = .ok (.aload_n 0, 1) := by decide +kernel
theorem dX13_second_1 : decode cX13_second 1 = .ok (.getfield 13, 3) := by decide +kernel
theorem dX13_second_4 : decode cX13_second 4 = .ok (.areturn, 1) := by decide +kernel
theorem q126 : (Jvm.Cond.initialized "Patternforge$Either") ∈ lw_all := lw_g (lw_at lw_m1 31 rfl) rfl
theorem q364 : (Jvm.Cond.selects "Patternforge$Either" ({ cls := "java/lang/Object", name := "getClass", desc := "()Ljava/lang/Class;" } : Jvm.MethodName) ({ cls := "java/lang/Object", name := "getClass", desc := "()Ljava/lang/Class;" } : Jvm.MethodName)) ∈ lw_all := lw_g (lw_at lw_m2 29 rfl) rfl
theorem q885 : (Jvm.Cond.instantiable "Patternforge$Either" (2 : Nat)) ∈ lw_all := lw_g (lw_at lw_m4 70 rfl) rfl
theorem q887 : (Jvm.Cond.instanceMethod ({ cls := "Patternforge$Either", name := "<init>", desc := "(LPatternforge$Pattern;LPatternforge$Pattern;)V" } : Jvm.MethodName)) ∈ lw_all := lw_g (lw_at lw_m4 72 rfl) rfl
theorem q888 : (Jvm.Cond.code ({ cls := "Patternforge$Either", name := "<init>", desc := "(LPatternforge$Pattern;LPatternforge$Pattern;)V" } : Jvm.MethodName) prog_5_method_1_code (3 : Nat) (Option.none : Option Jvm.ClassFile.FieldType)) ∈ lw_all := lw_g (lw_at lw_m4 73 rfl) rfl
theorem q889 : (Jvm.Cond.methodLink "Patternforge$Either" (1 : Nat) ({ cls := "java/lang/Record", name := "<init>", desc := "()V" } : Jvm.MethodName)) ∈ lw_all := lw_g (lw_at lw_m4 74 rfl) rfl
theorem q890 : (Jvm.Cond.fieldLink "Patternforge$Either" (7 : Nat) "Patternforge$Either" "first" "LPatternforge$Pattern;") ∈ lw_all := lw_g (lw_at lw_m4 75 rfl) rfl
theorem q891 : (Jvm.Cond.fieldLink "Patternforge$Either" (13 : Nat) "Patternforge$Either" "second" "LPatternforge$Pattern;") ∈ lw_all := lw_g (lw_at lw_m4 76 rfl) rfl
theorem q892 : (Jvm.Cond.laysFinal "Patternforge$Either" "Patternforge$Either" "first" "LPatternforge$Pattern;") ∈ lw_all := lw_g (lw_at lw_m4 77 rfl) rfl
theorem q893 : (Jvm.Cond.soleField "Patternforge$Either" "first") ∈ lw_all := lw_g (lw_at lw_m4 78 rfl) rfl
theorem q894 : (Jvm.Cond.laysFinal "Patternforge$Either" "Patternforge$Either" "second" "LPatternforge$Pattern;") ∈ lw_all := lw_g (lw_at lw_m4 79 rfl) rfl
theorem q895 : (Jvm.Cond.soleField "Patternforge$Either" "second") ∈ lw_all := lw_g (lw_at lw_m4 80 rfl) rfl
theorem q896 : (Jvm.Cond.superclass "Patternforge$Either" "java/lang/Record") ∈ lw_all := lw_g (lw_at lw_m4 81 rfl) rfl
theorem q1033 : (Jvm.Cond.instanceMethod ({ cls := "Patternforge$Either", name := "first", desc := "()LPatternforge$Pattern;" } : Jvm.MethodName)) ∈ lw_all := lw_g (lw_at lw_m4 218 rfl) rfl
theorem q1034 : (Jvm.Cond.selects "Patternforge$Either" ({ cls := "Patternforge$Either", name := "first", desc := "()LPatternforge$Pattern;" } : Jvm.MethodName) ({ cls := "Patternforge$Either", name := "first", desc := "()LPatternforge$Pattern;" } : Jvm.MethodName)) ∈ lw_all := lw_g (lw_at lw_m4 219 rfl) rfl
theorem q1035 : (Jvm.Cond.code ({ cls := "Patternforge$Either", name := "first", desc := "()LPatternforge$Pattern;" } : Jvm.MethodName) prog_5_method_5_code (1 : Nat) (Option.some (Jvm.ClassFile.FieldType.object "Patternforge$Pattern"))) ∈ lw_all := lw_g (lw_at lw_m4 220 rfl) rfl
theorem q1037 : (Jvm.Cond.instanceMethod ({ cls := "Patternforge$Either", name := "second", desc := "()LPatternforge$Pattern;" } : Jvm.MethodName)) ∈ lw_all := lw_g (lw_at lw_m4 222 rfl) rfl
theorem q1038 : (Jvm.Cond.selects "Patternforge$Either" ({ cls := "Patternforge$Either", name := "second", desc := "()LPatternforge$Pattern;" } : Jvm.MethodName) ({ cls := "Patternforge$Either", name := "second", desc := "()LPatternforge$Pattern;" } : Jvm.MethodName)) ∈ lw_all := lw_g (lw_at lw_m4 223 rfl) rfl
theorem q1039 : (Jvm.Cond.code ({ cls := "Patternforge$Either", name := "second", desc := "()LPatternforge$Pattern;" } : Jvm.MethodName) prog_5_method_6_code (1 : Nat) (Option.some (Jvm.ClassFile.FieldType.object "Patternforge$Pattern"))) ∈ lw_all := lw_g (lw_at lw_m4 224 rfl) rfl
theorem q2318 : (Jvm.Cond.castable "Patternforge$Either" "java/lang/Object") ∈ lw_tbl := lw_at lw_m10 63 rfl
theorem q2333 : (Jvm.Cond.castable "Patternforge$Either" "Patternforge$Pattern") ∈ lw_tbl := lw_at lw_m10 78 rfl
theorem in_X13 : ∀ w ∈ wsX130, w ∈ lw_all := lw_in wsX130 [892, 894] (by decide +kernel) (by decide +kernel)

/-! Patternforge$Looked -/
set_option maxRecDepth 100000
def RX14 : String := "Patternforge$Looked"
def TX14 : u_T := fun k => match k with
  | 0 => ("Patternforge$Looked", "view", "I", true)
  | _ => ("Patternforge$Looked", "of", "LPatternforge$Pattern;", true)
def tyX14 : Nat → FieldType := fun k => match k with
  | 0 => .int
  | _ => .object "Patternforge$Pattern"
abbrev wsX140 : List Cond := u_ws RX14 TX14 2
theorem nmX14 : ∀ a, a < 2 → ∀ b, b < 2 → a ≠ b → (TX14 a).2.1 ≠ (TX14 b).2.1 := by decide +kernel
theorem tyX14_ok : ∀ k, k < 2 → parseFieldDescriptor (TX14 k).2.2.1 = some (tyX14 k) := by decide +kernel
abbrev cX14_init : ByteArray := prog_7_method_1_code
def yX14_init : MethodName := ⟨RX14, "<init>", "(ILPatternforge$Pattern;)V"⟩
def dkwX14_init_0 : List UInt8 := [42, 183, 0, 1, 42, 27, 181, 0, 7, 42, 44, 181, 0, 13, 177]
abbrev dktX14_init_0 : List UInt8 := dkwX14_init_0 ++ []
theorem dksX14_init_0 : cX14_init.data.toList.drop 0 = dktX14_init_0 := by decide +kernel
theorem dX14_init_0 : decode cX14_init 0 = .ok (.aload_n 0, 1) := dk_42 (dk_at dksX14_init_0 0 rfl rfl)
theorem dX14_init_1 : decode cX14_init 1 = .ok (.invokespecial 1, 3) := dk_183 0 1 (dk_at dksX14_init_0 1 rfl rfl)
theorem dX14_init_4 : decode cX14_init 4 = .ok (.aload_n 0, 1) := dk_42 (dk_at dksX14_init_0 4 rfl rfl)
theorem dX14_init_5 : decode cX14_init 5 = .ok (.iload_n 1, 1) := dk_27 (dk_at dksX14_init_0 5 rfl rfl)
theorem dX14_init_6 : decode cX14_init 6 = .ok (.putfield 7, 3) := dk_181 0 7 (dk_at dksX14_init_0 6 rfl rfl)
theorem dX14_init_9 : decode cX14_init 9 = .ok (.aload_n 0, 1) := dk_42 (dk_at dksX14_init_0 9 rfl rfl)
theorem dX14_init_10 : decode cX14_init 10 = .ok (.aload_n 2, 1) := dk_44 (dk_at dksX14_init_0 10 rfl rfl)
theorem dX14_init_11 : decode cX14_init 11 = .ok (.putfield 13, 3) := dk_181 0 13 (dk_at dksX14_init_0 11 rfl rfl)
theorem dX14_init_14 : decode cX14_init 14 = .ok (.return_, 1) := dk_177 (dk_at dksX14_init_0 14 rfl rfl)
abbrev cX14_view : ByteArray := prog_7_method_5_code
def yX14_view : MethodName := ⟨RX14, "view", "()I"⟩
theorem dX14_view_0 : decode cX14_view 0 = .ok (.aload_n 0, 1) := by decide +kernel
theorem dX14_view_1 : decode cX14_view 1 = .ok (.getfield 7, 3) := by decide +kernel
theorem dX14_view_4 : decode cX14_view 4 = .ok (.ireturn, 1) := by decide +kernel
abbrev cX14_of : ByteArray := prog_7_method_6_code
def yX14_of : MethodName := ⟨RX14, "of", "()LPatternforge$Pattern;"⟩
theorem dX14_of_0 : decode cX14_of 0 = .ok (.aload_n 0, 1) := by decide +kernel
theorem dX14_of_1 : decode cX14_of 1 = .ok (.getfield 13, 3) := by decide +kernel
theorem dX14_of_4 : decode cX14_of 4 = .ok (.areturn, 1) := by decide +kernel
theorem q127 : (Jvm.Cond.initialized "Patternforge$Looked") ∈ lw_all := lw_g (lw_at lw_m1 32 rfl) rfl
theorem q366 : (Jvm.Cond.selects "Patternforge$Looked" ({ cls := "java/lang/Object", name := "getClass", desc := "()Ljava/lang/Class;" } : Jvm.MethodName) ({ cls := "java/lang/Object", name := "getClass", desc := "()Ljava/lang/Class;" } : Jvm.MethodName)) ∈ lw_all := lw_g (lw_at lw_m2 31 rfl) rfl
theorem q909 : (Jvm.Cond.instantiable "Patternforge$Looked" (2 : Nat)) ∈ lw_all := lw_g (lw_at lw_m4 94 rfl) rfl
theorem q911 : (Jvm.Cond.instanceMethod ({ cls := "Patternforge$Looked", name := "<init>", desc := "(ILPatternforge$Pattern;)V" } : Jvm.MethodName)) ∈ lw_all := lw_g (lw_at lw_m4 96 rfl) rfl
theorem q912 : (Jvm.Cond.code ({ cls := "Patternforge$Looked", name := "<init>", desc := "(ILPatternforge$Pattern;)V" } : Jvm.MethodName) prog_7_method_1_code (3 : Nat) (Option.none : Option Jvm.ClassFile.FieldType)) ∈ lw_all := lw_g (lw_at lw_m4 97 rfl) rfl
theorem q913 : (Jvm.Cond.methodLink "Patternforge$Looked" (1 : Nat) ({ cls := "java/lang/Record", name := "<init>", desc := "()V" } : Jvm.MethodName)) ∈ lw_all := lw_g (lw_at lw_m4 98 rfl) rfl
theorem q914 : (Jvm.Cond.fieldLink "Patternforge$Looked" (7 : Nat) "Patternforge$Looked" "view" "I") ∈ lw_all := lw_g (lw_at lw_m4 99 rfl) rfl
theorem q915 : (Jvm.Cond.fieldLink "Patternforge$Looked" (13 : Nat) "Patternforge$Looked" "of" "LPatternforge$Pattern;") ∈ lw_all := lw_g (lw_at lw_m4 100 rfl) rfl
theorem q916 : (Jvm.Cond.laysFinal "Patternforge$Looked" "Patternforge$Looked" "view" "I") ∈ lw_all := lw_g (lw_at lw_m4 101 rfl) rfl
theorem q917 : (Jvm.Cond.soleField "Patternforge$Looked" "view") ∈ lw_all := lw_g (lw_at lw_m4 102 rfl) rfl
theorem q918 : (Jvm.Cond.laysFinal "Patternforge$Looked" "Patternforge$Looked" "of" "LPatternforge$Pattern;") ∈ lw_all := lw_g (lw_at lw_m4 103 rfl) rfl
theorem q919 : (Jvm.Cond.soleField "Patternforge$Looked" "of") ∈ lw_all := lw_g (lw_at lw_m4 104 rfl) rfl
theorem q920 : (Jvm.Cond.superclass "Patternforge$Looked" "java/lang/Record") ∈ lw_all := lw_g (lw_at lw_m4 105 rfl) rfl
theorem q1453 : (Jvm.Cond.instanceMethod ({ cls := "Patternforge$Looked", name := "view", desc := "()I" } : Jvm.MethodName)) ∈ lw_all := lw_g (lw_at lw_m6 158 rfl) rfl
theorem q1454 : (Jvm.Cond.selects "Patternforge$Looked" ({ cls := "Patternforge$Looked", name := "view", desc := "()I" } : Jvm.MethodName) ({ cls := "Patternforge$Looked", name := "view", desc := "()I" } : Jvm.MethodName)) ∈ lw_all := lw_g (lw_at lw_m6 159 rfl) rfl
theorem q1455 : (Jvm.Cond.code ({ cls := "Patternforge$Looked", name := "view", desc := "()I" } : Jvm.MethodName) prog_7_method_5_code (1 : Nat) (Option.some Jvm.ClassFile.FieldType.int)) ∈ lw_all := lw_g (lw_at lw_m6 160 rfl) rfl
theorem q1474 : (Jvm.Cond.instanceMethod ({ cls := "Patternforge$Looked", name := "of", desc := "()LPatternforge$Pattern;" } : Jvm.MethodName)) ∈ lw_all := lw_g (lw_at lw_m6 179 rfl) rfl
theorem q1475 : (Jvm.Cond.selects "Patternforge$Looked" ({ cls := "Patternforge$Looked", name := "of", desc := "()LPatternforge$Pattern;" } : Jvm.MethodName) ({ cls := "Patternforge$Looked", name := "of", desc := "()LPatternforge$Pattern;" } : Jvm.MethodName)) ∈ lw_all := lw_g (lw_at lw_m6 180 rfl) rfl
theorem q1476 : (Jvm.Cond.code ({ cls := "Patternforge$Looked", name := "of", desc := "()LPatternforge$Pattern;" } : Jvm.MethodName) prog_7_method_6_code (1 : Nat) (Option.some (Jvm.ClassFile.FieldType.object "Patternforge$Pattern"))) ∈ lw_all := lw_g (lw_at lw_m6 181 rfl) rfl
theorem q2319 : (Jvm.Cond.castable "Patternforge$Looked" "java/lang/Object") ∈ lw_tbl := lw_at lw_m10 64 rfl
theorem q2334 : (Jvm.Cond.castable "Patternforge$Looked" "Patternforge$Pattern") ∈ lw_tbl := lw_at lw_m10 79 rfl
theorem in_X14 : ∀ w ∈ wsX140, w ∈ lw_all := lw_in wsX140 [916, 918] (by decide +kernel) (by decide +kernel)

/-! Patternforge$Listed -/
set_option maxRecDepth 100000
def RX15 : String := "Patternforge$Listed"
def TX15 : u_T := fun k => match k with
  | 0 => ("Patternforge$Listed", "items", "[LPatternforge$Pattern;", true)
  | _ => ("Patternforge$Listed", "rest", "I", true)
def tyX15 : Nat → FieldType := fun k => match k with
  | 0 => .array (.object "Patternforge$Pattern")
  | _ => .int
abbrev wsX150 : List Cond := u_ws RX15 TX15 2
theorem nmX15 : ∀ a, a < 2 → ∀ b, b < 2 → a ≠ b → (TX15 a).2.1 ≠ (TX15 b).2.1 := by decide +kernel
theorem tyX15_ok : ∀ k, k < 2 → parseFieldDescriptor (TX15 k).2.2.1 = some (tyX15 k) := by decide +kernel
abbrev cX15_init : ByteArray := prog_6_method_1_code
def yX15_init : MethodName := ⟨RX15, "<init>", "([LPatternforge$Pattern;I)V"⟩
def dkwX15_init_0 : List UInt8 := [42, 183, 0, 3, 42, 43, 181, 0, 9, 42, 28, 181, 0, 15, 177]
abbrev dktX15_init_0 : List UInt8 := dkwX15_init_0 ++ []
theorem dksX15_init_0 : cX15_init.data.toList.drop 0 = dktX15_init_0 := by decide +kernel
theorem dX15_init_0 : decode cX15_init 0 = .ok (.aload_n 0, 1) := dk_42 (dk_at dksX15_init_0 0 rfl rfl)
theorem dX15_init_1 : decode cX15_init 1 = .ok (.invokespecial 3, 3) := dk_183 0 3 (dk_at dksX15_init_0 1 rfl rfl)
theorem dX15_init_4 : decode cX15_init 4 = .ok (.aload_n 0, 1) := dk_42 (dk_at dksX15_init_0 4 rfl rfl)
theorem dX15_init_5 : decode cX15_init 5 = .ok (.aload_n 1, 1) := dk_43 (dk_at dksX15_init_0 5 rfl rfl)
theorem dX15_init_6 : decode cX15_init 6 = .ok (.putfield 9, 3) := dk_181 0 9 (dk_at dksX15_init_0 6 rfl rfl)
theorem dX15_init_9 : decode cX15_init 9 = .ok (.aload_n 0, 1) := dk_42 (dk_at dksX15_init_0 9 rfl rfl)
theorem dX15_init_10 : decode cX15_init 10 = .ok (.iload_n 2, 1) := dk_28 (dk_at dksX15_init_0 10 rfl rfl)
theorem dX15_init_11 : decode cX15_init 11 = .ok (.putfield 15, 3) := dk_181 0 15 (dk_at dksX15_init_0 11 rfl rfl)
theorem dX15_init_14 : decode cX15_init 14 = .ok (.return_, 1) := dk_177 (dk_at dksX15_init_0 14 rfl rfl)
abbrev cX15_fits : ByteArray := prog_6_method_2_code
def yX15_fits : MethodName := ⟨RX15, "fits", "(I)Z"⟩
def dkwX15_fits_1 : List UInt8 := [27, 42, 180, 0, 9, 190, 161, 0, 7, 4, 167, 0, 4, 3, 172]
abbrev dktX15_fits_1 : List UInt8 := dkwX15_fits_1 ++ []
def dkwX15_fits_0 : List UInt8 := [42, 180, 0, 15, 154, 0, 20, 27, 42, 180, 0, 9, 190, 160, 0, 7, 4, 167, 0, 21, 3, 167, 0, 17]
abbrev dktX15_fits_0 : List UInt8 := dkwX15_fits_0 ++ dktX15_fits_1
theorem dksX15_fits_0 : cX15_fits.data.toList.drop 0 = dktX15_fits_0 := by decide +kernel
theorem dksX15_fits_1 : cX15_fits.data.toList.drop 24 = dktX15_fits_1 := dk_seg dksX15_fits_0 24 rfl rfl
theorem dX15_fits_0 : decode cX15_fits 0 = .ok (.aload_n 0, 1) := dk_42 (dk_at dksX15_fits_0 0 rfl rfl)
theorem dX15_fits_1 : decode cX15_fits 1 = .ok (.getfield 15, 3) := dk_180 0 15 (dk_at dksX15_fits_0 1 rfl rfl)
theorem dX15_fits_4 : decode cX15_fits 4 = .ok (.ifCond .ne 20, 3) := dk_154 0 20 (dk_at dksX15_fits_0 4 rfl rfl)
theorem dX15_fits_7 : decode cX15_fits 7 = .ok (.iload_n 1, 1) := dk_27 (dk_at dksX15_fits_0 7 rfl rfl)
theorem dX15_fits_8 : decode cX15_fits 8 = .ok (.aload_n 0, 1) := dk_42 (dk_at dksX15_fits_0 8 rfl rfl)
theorem dX15_fits_9 : decode cX15_fits 9 = .ok (.getfield 9, 3) := dk_180 0 9 (dk_at dksX15_fits_0 9 rfl rfl)
theorem dX15_fits_12 : decode cX15_fits 12 = .ok (.arraylength, 1) := dk_190 (dk_at dksX15_fits_0 12 rfl rfl)
theorem dX15_fits_13 : decode cX15_fits 13 = .ok (.if_icmp .ne 7, 3) := dk_160 0 7 (dk_at dksX15_fits_0 13 rfl rfl)
theorem dX15_fits_16 : decode cX15_fits 16 = .ok (.iconst 1, 1) := dk_4 (dk_at dksX15_fits_0 16 rfl rfl)
theorem dX15_fits_17 : decode cX15_fits 17 = .ok (.goto 21, 3) := dk_167 0 21 (dk_at dksX15_fits_0 17 rfl rfl)
theorem dX15_fits_20 : decode cX15_fits 20 = .ok (.iconst 0, 1) := dk_3 (dk_at dksX15_fits_0 20 rfl rfl)
theorem dX15_fits_21 : decode cX15_fits 21 = .ok (.goto 17, 3) := dk_167 0 17 (dk_at dksX15_fits_0 21 rfl rfl)
theorem dX15_fits_24 : decode cX15_fits 24 = .ok (.iload_n 1, 1) := dk_27 (dk_at dksX15_fits_1 0 rfl rfl)
theorem dX15_fits_25 : decode cX15_fits 25 = .ok (.aload_n 0, 1) := dk_42 (dk_at dksX15_fits_1 1 rfl rfl)
theorem dX15_fits_26 : decode cX15_fits 26 = .ok (.getfield 9, 3) := dk_180 0 9 (dk_at dksX15_fits_1 2 rfl rfl)
theorem dX15_fits_29 : decode cX15_fits 29 = .ok (.arraylength, 1) := dk_190 (dk_at dksX15_fits_1 5 rfl rfl)
theorem dX15_fits_30 : decode cX15_fits 30 = .ok (.if_icmp .lt 7, 3) := dk_161 0 7 (dk_at dksX15_fits_1 6 rfl rfl)
theorem dX15_fits_33 : decode cX15_fits 33 = .ok (.iconst 1, 1) := dk_4 (dk_at dksX15_fits_1 9 rfl rfl)
theorem dX15_fits_34 : decode cX15_fits 34 = .ok (.goto 4, 3) := dk_167 0 4 (dk_at dksX15_fits_1 10 rfl rfl)
theorem dX15_fits_37 : decode cX15_fits 37 = .ok (.iconst 0, 1) := dk_3 (dk_at dksX15_fits_1 13 rfl rfl)
theorem dX15_fits_38 : decode cX15_fits 38 = .ok (.ireturn, 1) := dk_172 (dk_at dksX15_fits_1 14 rfl rfl)
abbrev cX15_items : ByteArray := prog_6_method_7_code
def yX15_items : MethodName := ⟨RX15, "items", "()[LPatternforge$Pattern;"⟩
theorem dX15_items_0 : decode cX15_items 0 = .ok (.aload_n 0, 1) := by decide +kernel
theorem dX15_items_1 : decode cX15_items 1 = .ok (.getfield 9, 3) := by decide +kernel
theorem dX15_items_4 : decode cX15_items 4 = .ok (.areturn, 1) := by decide +kernel
abbrev cX15_beginning : ByteArray := prog_6_method_3_code
def yX15_beginning : MethodName := ⟨RX15, "beginning", "(I)I"⟩
def dkwX15_beginning_0 : List UInt8 := [42, 180, 0, 15, 5, 160, 0, 13, 27, 42, 180, 0, 9, 190, 100, 167, 0, 4, 3, 172]
abbrev dktX15_beginning_0 : List UInt8 := dkwX15_beginning_0 ++ []
theorem dksX15_beginning_0 : cX15_beginning.data.toList.drop 0 = dktX15_beginning_0 := by decide +kernel
theorem dX15_beginning_0 : decode cX15_beginning 0 = .ok (.aload_n 0, 1) := dk_42 (dk_at dksX15_beginning_0 0 rfl rfl)
theorem dX15_beginning_1 : decode cX15_beginning 1 = .ok (.getfield 15, 3) := dk_180 0 15 (dk_at dksX15_beginning_0 1 rfl rfl)
theorem dX15_beginning_4 : decode cX15_beginning 4 = .ok (.iconst 2, 1) := dk_5 (dk_at dksX15_beginning_0 4 rfl rfl)
theorem dX15_beginning_5 : decode cX15_beginning 5 = .ok (.if_icmp .ne 13, 3) := dk_160 0 13 (dk_at dksX15_beginning_0 5 rfl rfl)
theorem dX15_beginning_8 : decode cX15_beginning 8 = .ok (.iload_n 1, 1) := dk_27 (dk_at dksX15_beginning_0 8 rfl rfl)
theorem dX15_beginning_9 : decode cX15_beginning 9 = .ok (.aload_n 0, 1) := dk_42 (dk_at dksX15_beginning_0 9 rfl rfl)
theorem dX15_beginning_10 : decode cX15_beginning 10 = .ok (.getfield 9, 3) := dk_180 0 9 (dk_at dksX15_beginning_0 10 rfl rfl)
theorem dX15_beginning_13 : decode cX15_beginning 13 = .ok (.arraylength, 1) := dk_190 (dk_at dksX15_beginning_0 13 rfl rfl)
theorem dX15_beginning_14 : decode cX15_beginning 14 = .ok (.isub, 1) := dk_100 (dk_at dksX15_beginning_0 14 rfl rfl)
theorem dX15_beginning_15 : decode cX15_beginning 15 = .ok (.goto 4, 3) := dk_167 0 4 (dk_at dksX15_beginning_0 15 rfl rfl)
theorem dX15_beginning_18 : decode cX15_beginning 18 = .ok (.iconst 0, 1) := dk_3 (dk_at dksX15_beginning_0 18 rfl rfl)
theorem dX15_beginning_19 : decode cX15_beginning 19 = .ok (.ireturn, 1) := dk_172 (dk_at dksX15_beginning_0 19 rfl rfl)
abbrev cX15_rest : ByteArray := prog_6_method_8_code
def yX15_rest : MethodName := ⟨RX15, "rest", "()I"⟩
theorem dX15_rest_0 : decode cX15_rest 0 = .ok (.aload_n 0, 1) := by decide +kernel
theorem dX15_rest_1 : decode cX15_rest 1 = .ok (.getfield 15, 3) := by decide +kernel
theorem dX15_rest_4 : decode cX15_rest 4 = .ok (.ireturn, 1) := by decide +kernel
theorem q128 : (Jvm.Cond.initialized "Patternforge$Listed") ∈ lw_all := lw_g (lw_at lw_m1 33 rfl) rfl
theorem q365 : (Jvm.Cond.selects "Patternforge$Listed" ({ cls := "java/lang/Object", name := "getClass", desc := "()Ljava/lang/Class;" } : Jvm.MethodName) ({ cls := "java/lang/Object", name := "getClass", desc := "()Ljava/lang/Class;" } : Jvm.MethodName)) ∈ lw_all := lw_g (lw_at lw_m2 30 rfl) rfl
theorem q929 : (Jvm.Cond.instantiable "Patternforge$Listed" (2 : Nat)) ∈ lw_all := lw_g (lw_at lw_m4 114 rfl) rfl
theorem q931 : (Jvm.Cond.instanceMethod ({ cls := "Patternforge$Listed", name := "<init>", desc := "([LPatternforge$Pattern;I)V" } : Jvm.MethodName)) ∈ lw_all := lw_g (lw_at lw_m4 116 rfl) rfl
theorem q932 : (Jvm.Cond.code ({ cls := "Patternforge$Listed", name := "<init>", desc := "([LPatternforge$Pattern;I)V" } : Jvm.MethodName) prog_6_method_1_code (3 : Nat) (Option.none : Option Jvm.ClassFile.FieldType)) ∈ lw_all := lw_g (lw_at lw_m4 117 rfl) rfl
theorem q933 : (Jvm.Cond.methodLink "Patternforge$Listed" (3 : Nat) ({ cls := "java/lang/Record", name := "<init>", desc := "()V" } : Jvm.MethodName)) ∈ lw_all := lw_g (lw_at lw_m4 118 rfl) rfl
theorem q934 : (Jvm.Cond.fieldLink "Patternforge$Listed" (9 : Nat) "Patternforge$Listed" "items" "[LPatternforge$Pattern;") ∈ lw_all := lw_g (lw_at lw_m4 119 rfl) rfl
theorem q935 : (Jvm.Cond.fieldLink "Patternforge$Listed" (15 : Nat) "Patternforge$Listed" "rest" "I") ∈ lw_all := lw_g (lw_at lw_m4 120 rfl) rfl
theorem q936 : (Jvm.Cond.laysFinal "Patternforge$Listed" "Patternforge$Listed" "items" "[LPatternforge$Pattern;") ∈ lw_all := lw_g (lw_at lw_m4 121 rfl) rfl
theorem q937 : (Jvm.Cond.soleField "Patternforge$Listed" "items") ∈ lw_all := lw_g (lw_at lw_m4 122 rfl) rfl
theorem q938 : (Jvm.Cond.laysFinal "Patternforge$Listed" "Patternforge$Listed" "rest" "I") ∈ lw_all := lw_g (lw_at lw_m4 123 rfl) rfl
theorem q939 : (Jvm.Cond.soleField "Patternforge$Listed" "rest") ∈ lw_all := lw_g (lw_at lw_m4 124 rfl) rfl
theorem q940 : (Jvm.Cond.superclass "Patternforge$Listed" "java/lang/Record") ∈ lw_all := lw_g (lw_at lw_m4 125 rfl) rfl
theorem q1492 : (Jvm.Cond.instanceMethod ({ cls := "Patternforge$Listed", name := "fits", desc := "(I)Z" } : Jvm.MethodName)) ∈ lw_all := lw_g (lw_at lw_m6 197 rfl) rfl
theorem q1493 : (Jvm.Cond.selects "Patternforge$Listed" ({ cls := "Patternforge$Listed", name := "fits", desc := "(I)Z" } : Jvm.MethodName) ({ cls := "Patternforge$Listed", name := "fits", desc := "(I)Z" } : Jvm.MethodName)) ∈ lw_all := lw_g (lw_at lw_m6 198 rfl) rfl
theorem q1494 : (Jvm.Cond.code ({ cls := "Patternforge$Listed", name := "fits", desc := "(I)Z" } : Jvm.MethodName) prog_6_method_2_code (2 : Nat) (Option.some Jvm.ClassFile.FieldType.boolean)) ∈ lw_all := lw_g (lw_at lw_m6 199 rfl) rfl
theorem q1496 : (Jvm.Cond.instanceMethod ({ cls := "Patternforge$Listed", name := "items", desc := "()[LPatternforge$Pattern;" } : Jvm.MethodName)) ∈ lw_all := lw_g (lw_at lw_m6 201 rfl) rfl
theorem q1497 : (Jvm.Cond.selects "Patternforge$Listed" ({ cls := "Patternforge$Listed", name := "items", desc := "()[LPatternforge$Pattern;" } : Jvm.MethodName) ({ cls := "Patternforge$Listed", name := "items", desc := "()[LPatternforge$Pattern;" } : Jvm.MethodName)) ∈ lw_all := lw_g (lw_at lw_m6 202 rfl) rfl
theorem q1498 : (Jvm.Cond.code ({ cls := "Patternforge$Listed", name := "items", desc := "()[LPatternforge$Pattern;" } : Jvm.MethodName) prog_6_method_7_code (1 : Nat) (Option.some (Jvm.ClassFile.FieldType.array (Jvm.ClassFile.FieldType.object "Patternforge$Pattern")))) ∈ lw_all := lw_g (lw_at lw_m6 203 rfl) rfl
theorem q1500 : (Jvm.Cond.instanceMethod ({ cls := "Patternforge$Listed", name := "beginning", desc := "(I)I" } : Jvm.MethodName)) ∈ lw_all := lw_g (lw_at lw_m6 205 rfl) rfl
theorem q1501 : (Jvm.Cond.selects "Patternforge$Listed" ({ cls := "Patternforge$Listed", name := "beginning", desc := "(I)I" } : Jvm.MethodName) ({ cls := "Patternforge$Listed", name := "beginning", desc := "(I)I" } : Jvm.MethodName)) ∈ lw_all := lw_g (lw_at lw_m6 206 rfl) rfl
theorem q1502 : (Jvm.Cond.code ({ cls := "Patternforge$Listed", name := "beginning", desc := "(I)I" } : Jvm.MethodName) prog_6_method_3_code (2 : Nat) (Option.some Jvm.ClassFile.FieldType.int)) ∈ lw_all := lw_g (lw_at lw_m6 207 rfl) rfl
theorem q1623 : (Jvm.Cond.instanceMethod ({ cls := "Patternforge$Listed", name := "rest", desc := "()I" } : Jvm.MethodName)) ∈ lw_all := lw_g (lw_at lw_m7 88 rfl) rfl
theorem q1624 : (Jvm.Cond.selects "Patternforge$Listed" ({ cls := "Patternforge$Listed", name := "rest", desc := "()I" } : Jvm.MethodName) ({ cls := "Patternforge$Listed", name := "rest", desc := "()I" } : Jvm.MethodName)) ∈ lw_all := lw_g (lw_at lw_m7 89 rfl) rfl
theorem q1625 : (Jvm.Cond.code ({ cls := "Patternforge$Listed", name := "rest", desc := "()I" } : Jvm.MethodName) prog_6_method_8_code (1 : Nat) (Option.some Jvm.ClassFile.FieldType.int)) ∈ lw_all := lw_g (lw_at lw_m7 90 rfl) rfl
theorem q2320 : (Jvm.Cond.castable "Patternforge$Listed" "java/lang/Object") ∈ lw_tbl := lw_at lw_m10 65 rfl
theorem q2335 : (Jvm.Cond.castable "Patternforge$Listed" "Patternforge$Pattern") ∈ lw_tbl := lw_at lw_m10 80 rfl
theorem in_X15 : ∀ w ∈ wsX150, w ∈ lw_all := lw_in wsX150 [936, 938] (by decide +kernel) (by decide +kernel)

/-! Patternforge$Case -/
set_option maxRecDepth 100000
def RX16 : String := "Patternforge$Case"
def TX16 : u_T := fun k => match k with
  | 0 => ("Patternforge$Case", "patterns", "[I", true)
  | 1 => ("Patternforge$Case", "result", "I", true)
  | 2 => ("Patternforge$Case", "guard", "LPatternforge$Test;", false)
  | 3 => ("Patternforge$Case", "name", "I", false)
  | 4 => ("Patternforge$Case", "than", "I", false)
  | _ => ("Patternforge$Case", "taken", "I", false)
def tyX16 : Nat → FieldType := fun k => match k with
  | 0 => .array .int
  | 1 => .int
  | 2 => .object "Patternforge$Test"
  | 3 => .int
  | 4 => .int
  | _ => .int
abbrev wsX160 : List Cond := u_ws RX16 TX16 6
theorem nmX16 : ∀ a, a < 6 → ∀ b, b < 6 → a ≠ b → (TX16 a).2.1 ≠ (TX16 b).2.1 := by decide +kernel
theorem tyX16_ok : ∀ k, k < 6 → parseFieldDescriptor (TX16 k).2.2.1 = some (tyX16 k) := by decide +kernel
abbrev cX16_init : ByteArray := prog_4_method_1_code
def yX16_init : MethodName := ⟨RX16, "<init>", "([II)V"⟩
def dkwX16_init_0 : List UInt8 := [42, 183, 0, 1, 42, 43, 181, 0, 7, 42, 28, 181, 0, 13, 177]
abbrev dktX16_init_0 : List UInt8 := dkwX16_init_0 ++ []
theorem dksX16_init_0 : cX16_init.data.toList.drop 0 = dktX16_init_0 := by decide +kernel
theorem dX16_init_0 : decode cX16_init 0 = .ok (.aload_n 0, 1) := dk_42 (dk_at dksX16_init_0 0 rfl rfl)
theorem dX16_init_1 : decode cX16_init 1 = .ok (.invokespecial 1, 3) := dk_183 0 1 (dk_at dksX16_init_0 1 rfl rfl)
theorem dX16_init_4 : decode cX16_init 4 = .ok (.aload_n 0, 1) := dk_42 (dk_at dksX16_init_0 4 rfl rfl)
theorem dX16_init_5 : decode cX16_init 5 = .ok (.aload_n 1, 1) := dk_43 (dk_at dksX16_init_0 5 rfl rfl)
theorem dX16_init_6 : decode cX16_init 6 = .ok (.putfield 7, 3) := dk_181 0 7 (dk_at dksX16_init_0 6 rfl rfl)
theorem dX16_init_9 : decode cX16_init 9 = .ok (.aload_n 0, 1) := dk_42 (dk_at dksX16_init_0 9 rfl rfl)
theorem dX16_init_10 : decode cX16_init 10 = .ok (.iload_n 2, 1) := dk_28 (dk_at dksX16_init_0 10 rfl rfl)
theorem dX16_init_11 : decode cX16_init 11 = .ok (.putfield 13, 3) := dk_181 0 13 (dk_at dksX16_init_0 11 rfl rfl)
theorem dX16_init_14 : decode cX16_init 14 = .ok (.return_, 1) := dk_177 (dk_at dksX16_init_0 14 rfl rfl)
theorem q129 : (Jvm.Cond.initialized "Patternforge$Case") ∈ lw_all := lw_g (lw_at lw_m1 34 rfl) rfl
theorem q363 : (Jvm.Cond.selects "Patternforge$Case" ({ cls := "java/lang/Object", name := "getClass", desc := "()Ljava/lang/Class;" } : Jvm.MethodName) ({ cls := "java/lang/Object", name := "getClass", desc := "()Ljava/lang/Class;" } : Jvm.MethodName)) ∈ lw_all := lw_g (lw_at lw_m2 28 rfl) rfl
theorem q972 : (Jvm.Cond.instantiable "Patternforge$Case" (6 : Nat)) ∈ lw_all := lw_g (lw_at lw_m4 157 rfl) rfl
theorem q974 : (Jvm.Cond.instanceMethod ({ cls := "Patternforge$Case", name := "<init>", desc := "([II)V" } : Jvm.MethodName)) ∈ lw_all := lw_g (lw_at lw_m4 159 rfl) rfl
theorem q975 : (Jvm.Cond.code ({ cls := "Patternforge$Case", name := "<init>", desc := "([II)V" } : Jvm.MethodName) prog_4_method_1_code (3 : Nat) (Option.none : Option Jvm.ClassFile.FieldType)) ∈ lw_all := lw_g (lw_at lw_m4 160 rfl) rfl
theorem q976 : (Jvm.Cond.methodLink "Patternforge$Case" (1 : Nat) ({ cls := "java/lang/Object", name := "<init>", desc := "()V" } : Jvm.MethodName)) ∈ lw_all := lw_g (lw_at lw_m4 161 rfl) rfl
theorem q977 : (Jvm.Cond.fieldLink "Patternforge$Case" (7 : Nat) "Patternforge$Case" "patterns" "[I") ∈ lw_all := lw_g (lw_at lw_m4 162 rfl) rfl
theorem q982 : (Jvm.Cond.fieldLink "Patternforge$Case" (13 : Nat) "Patternforge$Case" "result" "I") ∈ lw_all := lw_g (lw_at lw_m4 167 rfl) rfl
theorem q992 : (Jvm.Cond.laysFinal "Patternforge$Case" "Patternforge$Case" "patterns" "[I") ∈ lw_all := lw_g (lw_at lw_m4 177 rfl) rfl
theorem q993 : (Jvm.Cond.soleField "Patternforge$Case" "patterns") ∈ lw_all := lw_g (lw_at lw_m4 178 rfl) rfl
theorem q994 : (Jvm.Cond.laysFinal "Patternforge$Case" "Patternforge$Case" "result" "I") ∈ lw_all := lw_g (lw_at lw_m4 179 rfl) rfl
theorem q995 : (Jvm.Cond.soleField "Patternforge$Case" "result") ∈ lw_all := lw_g (lw_at lw_m4 180 rfl) rfl
theorem q996 : (Jvm.Cond.lays "Patternforge$Case" "Patternforge$Case" "guard" "LPatternforge$Test;") ∈ lw_all := lw_g (lw_at lw_m4 181 rfl) rfl
theorem q997 : (Jvm.Cond.soleField "Patternforge$Case" "guard") ∈ lw_all := lw_g (lw_at lw_m4 182 rfl) rfl
theorem q998 : (Jvm.Cond.lays "Patternforge$Case" "Patternforge$Case" "name" "I") ∈ lw_all := lw_g (lw_at lw_m4 183 rfl) rfl
theorem q999 : (Jvm.Cond.soleField "Patternforge$Case" "name") ∈ lw_all := lw_g (lw_at lw_m4 184 rfl) rfl
theorem q1000 : (Jvm.Cond.lays "Patternforge$Case" "Patternforge$Case" "than" "I") ∈ lw_all := lw_g (lw_at lw_m4 185 rfl) rfl
theorem q1001 : (Jvm.Cond.soleField "Patternforge$Case" "than") ∈ lw_all := lw_g (lw_at lw_m4 186 rfl) rfl
theorem q1002 : (Jvm.Cond.lays "Patternforge$Case" "Patternforge$Case" "taken" "I") ∈ lw_all := lw_g (lw_at lw_m4 187 rfl) rfl
theorem q1003 : (Jvm.Cond.soleField "Patternforge$Case" "taken") ∈ lw_all := lw_g (lw_at lw_m4 188 rfl) rfl
theorem q1004 : (Jvm.Cond.superclass "Patternforge$Case" "java/lang/Object") ∈ lw_all := lw_g (lw_at lw_m4 189 rfl) rfl
theorem q2321 : (Jvm.Cond.castable "Patternforge$Case" "java/lang/Object") ∈ lw_tbl := lw_at lw_m10 66 rfl
theorem in_X16 : ∀ w ∈ wsX160, w ∈ lw_all := lw_in wsX160 [992, 994, 996, 998, 1000, 1002] (by decide +kernel) (by decide +kernel)

/-! Patternforge$Test -/
set_option maxRecDepth 100000
def RX17 : String := "Patternforge$Test"
abbrev cX17_values : ByteArray := prog_14_method_1_code
def yX17_values : MethodName := ⟨RX17, "values", "()[LPatternforge$Test;"⟩
def dkwX17_values_0 : List UInt8 := [178, 0, 16, 182, 0, 20, 192, 0, 21, 176]
abbrev dktX17_values_0 : List UInt8 := dkwX17_values_0 ++ []
theorem dksX17_values_0 : cX17_values.data.toList.drop 0 = dktX17_values_0 := by decide +kernel
theorem dX17_values_0 : decode cX17_values 0 = .ok (.getstatic 16, 3) := dk_178 0 16 (dk_at dksX17_values_0 0 rfl rfl)
theorem dX17_values_3 : decode cX17_values 3 = .ok (.invokevirtual 20, 3) := dk_182 0 20 (dk_at dksX17_values_0 3 rfl rfl)
theorem dX17_values_6 : decode cX17_values 6 = .ok (.checkcast 21, 3) := dk_192 0 21 (dk_at dksX17_values_0 6 rfl rfl)
theorem dX17_values_9 : decode cX17_values 9 = .ok (.areturn, 1) := dk_176 (dk_at dksX17_values_0 9 rfl rfl)
theorem q131 : (Jvm.Cond.initialized "Patternforge$Test") ∈ lw_all := lw_g (lw_at lw_m1 36 rfl) rfl
theorem q1053 : (Jvm.Cond.sameMethod "Patternforge$Test" "java/lang/Enum" "ordinal" "()I") ∈ lw_all := lw_g (lw_at lw_m4 238 rfl) rfl
theorem q1062 : (Jvm.Cond.static ({ cls := "Patternforge$Test", name := "values", desc := "()[LPatternforge$Test;" } : Jvm.MethodName)) ∈ lw_all := lw_g (lw_at lw_m5 7 rfl) rfl
theorem q1063 : (Jvm.Cond.code ({ cls := "Patternforge$Test", name := "values", desc := "()[LPatternforge$Test;" } : Jvm.MethodName) prog_14_method_1_code (0 : Nat) (Option.some (Jvm.ClassFile.FieldType.array (Jvm.ClassFile.FieldType.object "Patternforge$Test")))) ∈ lw_all := lw_g (lw_at lw_m5 8 rfl) rfl
theorem q1064 : (Jvm.Cond.fieldLink "Patternforge$Test" (16 : Nat) "Patternforge$Test" "$VALUES" "[LPatternforge$Test;") ∈ lw_all := lw_g (lw_at lw_m5 9 rfl) rfl
theorem q1065 : (Jvm.Cond.laysStatic "Patternforge$Test" "$VALUES" "[LPatternforge$Test;") ∈ lw_tbl := lw_at lw_m5 10 rfl
theorem q1066 : (Jvm.Cond.methodLink "Patternforge$Test" (20 : Nat) ({ cls := "[LPatternforge$Test;", name := "clone", desc := "()Ljava/lang/Object;" } : Jvm.MethodName)) ∈ lw_all := lw_g (lw_at lw_m5 11 rfl) rfl
theorem q1073 : (Jvm.Cond.classLink "Patternforge$Test" (21 : Nat) "[LPatternforge$Test;") ∈ lw_all := lw_g (lw_at lw_m5 18 rfl) rfl
theorem q1512 : (Jvm.Cond.laysStatic "Patternforge$Test" "RAISES" "LPatternforge$Test;") ∈ lw_tbl := lw_at lw_m6 217 rfl
theorem q1643 : (Jvm.Cond.declares ({ cls := "Patternforge$Test", name := "goesOut", desc := "(II)I" } : Jvm.MethodName)) ∈ lw_tbl := lw_at lw_m7 108 rfl
theorem q1644 : (Jvm.Cond.sameMethod "Patternforge$Test" "Patternforge$Test" "goesOut" "(II)I") ∈ lw_all := lw_g (lw_at lw_m7 109 rfl) rfl
theorem q2301 : (Jvm.Cond.castable "Patternforge$Test" "java/lang/Object") ∈ lw_tbl := lw_at lw_m10 46 rfl
theorem q2352 : (Jvm.Cond.laysStatic "Patternforge$Test" "LESS" "LPatternforge$Test;") ∈ lw_tbl := lw_at lw_m10 97 rfl
theorem q2353 : (Jvm.Cond.laysStatic "Patternforge$Test" "SAME" "LPatternforge$Test;") ∈ lw_tbl := lw_at lw_m10 98 rfl
theorem q2354 : (Jvm.Cond.laysStatic "Patternforge$Test" "MORE" "LPatternforge$Test;") ∈ lw_tbl := lw_at lw_m10 99 rfl

/-! Patternforge$Test$1 -/
set_option maxRecDepth 100000
def RX18 : String := "Patternforge$Test$1"
abbrev cX18_goesOut : ByteArray := prog_15_method_2_code
def yX18_goesOut : MethodName := ⟨RX18, "goesOut", "(II)I"⟩
def dkwX18_goesOut_0 : List UInt8 := [27, 28, 162, 0, 7, 3, 167, 0, 4, 4, 172]
abbrev dktX18_goesOut_0 : List UInt8 := dkwX18_goesOut_0 ++ []
theorem dksX18_goesOut_0 : cX18_goesOut.data.toList.drop 0 = dktX18_goesOut_0 := by decide +kernel
theorem dX18_goesOut_0 : decode cX18_goesOut 0 = .ok (.iload_n 1, 1) := dk_27 (dk_at dksX18_goesOut_0 0 rfl rfl)
theorem dX18_goesOut_1 : decode cX18_goesOut 1 = .ok (.iload_n 2, 1) := dk_28 (dk_at dksX18_goesOut_0 1 rfl rfl)
theorem dX18_goesOut_2 : decode cX18_goesOut 2 = .ok (.if_icmp .ge 7, 3) := dk_162 0 7 (dk_at dksX18_goesOut_0 2 rfl rfl)
theorem dX18_goesOut_5 : decode cX18_goesOut 5 = .ok (.iconst 0, 1) := dk_3 (dk_at dksX18_goesOut_0 5 rfl rfl)
theorem dX18_goesOut_6 : decode cX18_goesOut 6 = .ok (.goto 4, 3) := dk_167 0 4 (dk_at dksX18_goesOut_0 6 rfl rfl)
theorem dX18_goesOut_9 : decode cX18_goesOut 9 = .ok (.iconst 1, 1) := dk_4 (dk_at dksX18_goesOut_0 9 rfl rfl)
theorem dX18_goesOut_10 : decode cX18_goesOut 10 = .ok (.ireturn, 1) := dk_172 (dk_at dksX18_goesOut_0 10 rfl rfl)
theorem q371 : (Jvm.Cond.selects "Patternforge$Test$1" ({ cls := "java/lang/Object", name := "getClass", desc := "()Ljava/lang/Class;" } : Jvm.MethodName) ({ cls := "java/lang/Object", name := "getClass", desc := "()Ljava/lang/Class;" } : Jvm.MethodName)) ∈ lw_all := lw_g (lw_at lw_m2 36 rfl) rfl
theorem q1055 : (Jvm.Cond.selects "Patternforge$Test$1" ({ cls := "Patternforge$Test", name := "ordinal", desc := "()I" } : Jvm.MethodName) ({ cls := "java/lang/Enum", name := "ordinal", desc := "()I" } : Jvm.MethodName)) ∈ lw_all := lw_g (lw_at lw_m5 0 rfl) rfl
theorem q1645 : (Jvm.Cond.selects "Patternforge$Test$1" ({ cls := "Patternforge$Test", name := "goesOut", desc := "(II)I" } : Jvm.MethodName) ({ cls := "Patternforge$Test$1", name := "goesOut", desc := "(II)I" } : Jvm.MethodName)) ∈ lw_all := lw_g (lw_at lw_m7 110 rfl) rfl
theorem q1646 : (Jvm.Cond.instanceMethod ({ cls := "Patternforge$Test$1", name := "goesOut", desc := "(II)I" } : Jvm.MethodName)) ∈ lw_all := lw_g (lw_at lw_m7 111 rfl) rfl
theorem q1647 : (Jvm.Cond.code ({ cls := "Patternforge$Test$1", name := "goesOut", desc := "(II)I" } : Jvm.MethodName) prog_15_method_2_code (3 : Nat) (Option.some Jvm.ClassFile.FieldType.int)) ∈ lw_all := lw_g (lw_at lw_m7 112 rfl) rfl
theorem q2322 : (Jvm.Cond.castable "Patternforge$Test$1" "java/lang/Object") ∈ lw_tbl := lw_at lw_m10 67 rfl
theorem q2336 : (Jvm.Cond.castable "Patternforge$Test$1" "Patternforge$Test") ∈ lw_tbl := lw_at lw_m10 81 rfl

/-! Patternforge$Test$2 -/
set_option maxRecDepth 100000
def RX19 : String := "Patternforge$Test$2"
abbrev cX19_goesOut : ByteArray := prog_16_method_2_code
def yX19_goesOut : MethodName := ⟨RX19, "goesOut", "(II)I"⟩
def dkwX19_goesOut_0 : List UInt8 := [27, 28, 160, 0, 7, 3, 167, 0, 4, 4, 172]
abbrev dktX19_goesOut_0 : List UInt8 := dkwX19_goesOut_0 ++ []
theorem dksX19_goesOut_0 : cX19_goesOut.data.toList.drop 0 = dktX19_goesOut_0 := by decide +kernel
theorem dX19_goesOut_0 : decode cX19_goesOut 0 = .ok (.iload_n 1, 1) := dk_27 (dk_at dksX19_goesOut_0 0 rfl rfl)
theorem dX19_goesOut_1 : decode cX19_goesOut 1 = .ok (.iload_n 2, 1) := dk_28 (dk_at dksX19_goesOut_0 1 rfl rfl)
theorem dX19_goesOut_2 : decode cX19_goesOut 2 = .ok (.if_icmp .ne 7, 3) := dk_160 0 7 (dk_at dksX19_goesOut_0 2 rfl rfl)
theorem dX19_goesOut_5 : decode cX19_goesOut 5 = .ok (.iconst 0, 1) := dk_3 (dk_at dksX19_goesOut_0 5 rfl rfl)
theorem dX19_goesOut_6 : decode cX19_goesOut 6 = .ok (.goto 4, 3) := dk_167 0 4 (dk_at dksX19_goesOut_0 6 rfl rfl)
theorem dX19_goesOut_9 : decode cX19_goesOut 9 = .ok (.iconst 1, 1) := dk_4 (dk_at dksX19_goesOut_0 9 rfl rfl)
theorem dX19_goesOut_10 : decode cX19_goesOut 10 = .ok (.ireturn, 1) := dk_172 (dk_at dksX19_goesOut_0 10 rfl rfl)
theorem q372 : (Jvm.Cond.selects "Patternforge$Test$2" ({ cls := "java/lang/Object", name := "getClass", desc := "()Ljava/lang/Class;" } : Jvm.MethodName) ({ cls := "java/lang/Object", name := "getClass", desc := "()Ljava/lang/Class;" } : Jvm.MethodName)) ∈ lw_all := lw_g (lw_at lw_m2 37 rfl) rfl
theorem q1056 : (Jvm.Cond.selects "Patternforge$Test$2" ({ cls := "Patternforge$Test", name := "ordinal", desc := "()I" } : Jvm.MethodName) ({ cls := "java/lang/Enum", name := "ordinal", desc := "()I" } : Jvm.MethodName)) ∈ lw_all := lw_g (lw_at lw_m5 1 rfl) rfl
theorem q1648 : (Jvm.Cond.selects "Patternforge$Test$2" ({ cls := "Patternforge$Test", name := "goesOut", desc := "(II)I" } : Jvm.MethodName) ({ cls := "Patternforge$Test$2", name := "goesOut", desc := "(II)I" } : Jvm.MethodName)) ∈ lw_all := lw_g (lw_at lw_m7 113 rfl) rfl
theorem q1649 : (Jvm.Cond.instanceMethod ({ cls := "Patternforge$Test$2", name := "goesOut", desc := "(II)I" } : Jvm.MethodName)) ∈ lw_all := lw_g (lw_at lw_m7 114 rfl) rfl
theorem q1650 : (Jvm.Cond.code ({ cls := "Patternforge$Test$2", name := "goesOut", desc := "(II)I" } : Jvm.MethodName) prog_16_method_2_code (3 : Nat) (Option.some Jvm.ClassFile.FieldType.int)) ∈ lw_all := lw_g (lw_at lw_m7 115 rfl) rfl
theorem q2323 : (Jvm.Cond.castable "Patternforge$Test$2" "java/lang/Object") ∈ lw_tbl := lw_at lw_m10 68 rfl
theorem q2337 : (Jvm.Cond.castable "Patternforge$Test$2" "Patternforge$Test") ∈ lw_tbl := lw_at lw_m10 82 rfl

/-! Patternforge$Test$3 -/
set_option maxRecDepth 100000
def RX20 : String := "Patternforge$Test$3"
abbrev cX20_goesOut : ByteArray := prog_17_method_2_code
def yX20_goesOut : MethodName := ⟨RX20, "goesOut", "(II)I"⟩
def dkwX20_goesOut_0 : List UInt8 := [27, 28, 164, 0, 7, 3, 167, 0, 4, 4, 172]
abbrev dktX20_goesOut_0 : List UInt8 := dkwX20_goesOut_0 ++ []
theorem dksX20_goesOut_0 : cX20_goesOut.data.toList.drop 0 = dktX20_goesOut_0 := by decide +kernel
theorem dX20_goesOut_0 : decode cX20_goesOut 0 = .ok (.iload_n 1, 1) := dk_27 (dk_at dksX20_goesOut_0 0 rfl rfl)
theorem dX20_goesOut_1 : decode cX20_goesOut 1 = .ok (.iload_n 2, 1) := dk_28 (dk_at dksX20_goesOut_0 1 rfl rfl)
theorem dX20_goesOut_2 : decode cX20_goesOut 2 = .ok (.if_icmp .le 7, 3) := dk_164 0 7 (dk_at dksX20_goesOut_0 2 rfl rfl)
theorem dX20_goesOut_5 : decode cX20_goesOut 5 = .ok (.iconst 0, 1) := dk_3 (dk_at dksX20_goesOut_0 5 rfl rfl)
theorem dX20_goesOut_6 : decode cX20_goesOut 6 = .ok (.goto 4, 3) := dk_167 0 4 (dk_at dksX20_goesOut_0 6 rfl rfl)
theorem dX20_goesOut_9 : decode cX20_goesOut 9 = .ok (.iconst 1, 1) := dk_4 (dk_at dksX20_goesOut_0 9 rfl rfl)
theorem dX20_goesOut_10 : decode cX20_goesOut 10 = .ok (.ireturn, 1) := dk_172 (dk_at dksX20_goesOut_0 10 rfl rfl)
theorem q373 : (Jvm.Cond.selects "Patternforge$Test$3" ({ cls := "java/lang/Object", name := "getClass", desc := "()Ljava/lang/Class;" } : Jvm.MethodName) ({ cls := "java/lang/Object", name := "getClass", desc := "()Ljava/lang/Class;" } : Jvm.MethodName)) ∈ lw_all := lw_g (lw_at lw_m2 38 rfl) rfl
theorem q1057 : (Jvm.Cond.selects "Patternforge$Test$3" ({ cls := "Patternforge$Test", name := "ordinal", desc := "()I" } : Jvm.MethodName) ({ cls := "java/lang/Enum", name := "ordinal", desc := "()I" } : Jvm.MethodName)) ∈ lw_all := lw_g (lw_at lw_m5 2 rfl) rfl
theorem q1651 : (Jvm.Cond.selects "Patternforge$Test$3" ({ cls := "Patternforge$Test", name := "goesOut", desc := "(II)I" } : Jvm.MethodName) ({ cls := "Patternforge$Test$3", name := "goesOut", desc := "(II)I" } : Jvm.MethodName)) ∈ lw_all := lw_g (lw_at lw_m7 116 rfl) rfl
theorem q1652 : (Jvm.Cond.instanceMethod ({ cls := "Patternforge$Test$3", name := "goesOut", desc := "(II)I" } : Jvm.MethodName)) ∈ lw_all := lw_g (lw_at lw_m7 117 rfl) rfl
theorem q1653 : (Jvm.Cond.code ({ cls := "Patternforge$Test$3", name := "goesOut", desc := "(II)I" } : Jvm.MethodName) prog_17_method_2_code (3 : Nat) (Option.some Jvm.ClassFile.FieldType.int)) ∈ lw_all := lw_g (lw_at lw_m7 118 rfl) rfl
theorem q2324 : (Jvm.Cond.castable "Patternforge$Test$3" "java/lang/Object") ∈ lw_tbl := lw_at lw_m10 69 rfl
theorem q2338 : (Jvm.Cond.castable "Patternforge$Test$3" "Patternforge$Test") ∈ lw_tbl := lw_at lw_m10 83 rfl

/-! Patternforge$Test$4 -/
set_option maxRecDepth 100000
def RX21 : String := "Patternforge$Test$4"
abbrev cX21_goesOut : ByteArray := prog_18_method_2_code
def yX21_goesOut : MethodName := ⟨RX21, "goesOut", "(II)I"⟩
def dkwX21_goesOut_0 : List UInt8 := [27, 28, 160, 0, 7, 5, 167, 0, 4, 3, 172]
abbrev dktX21_goesOut_0 : List UInt8 := dkwX21_goesOut_0 ++ []
theorem dksX21_goesOut_0 : cX21_goesOut.data.toList.drop 0 = dktX21_goesOut_0 := by decide +kernel
theorem dX21_goesOut_0 : decode cX21_goesOut 0 = .ok (.iload_n 1, 1) := dk_27 (dk_at dksX21_goesOut_0 0 rfl rfl)
theorem dX21_goesOut_1 : decode cX21_goesOut 1 = .ok (.iload_n 2, 1) := dk_28 (dk_at dksX21_goesOut_0 1 rfl rfl)
theorem dX21_goesOut_2 : decode cX21_goesOut 2 = .ok (.if_icmp .ne 7, 3) := dk_160 0 7 (dk_at dksX21_goesOut_0 2 rfl rfl)
theorem dX21_goesOut_5 : decode cX21_goesOut 5 = .ok (.iconst 2, 1) := dk_5 (dk_at dksX21_goesOut_0 5 rfl rfl)
theorem dX21_goesOut_6 : decode cX21_goesOut 6 = .ok (.goto 4, 3) := dk_167 0 4 (dk_at dksX21_goesOut_0 6 rfl rfl)
theorem dX21_goesOut_9 : decode cX21_goesOut 9 = .ok (.iconst 0, 1) := dk_3 (dk_at dksX21_goesOut_0 9 rfl rfl)
theorem dX21_goesOut_10 : decode cX21_goesOut 10 = .ok (.ireturn, 1) := dk_172 (dk_at dksX21_goesOut_0 10 rfl rfl)
theorem q374 : (Jvm.Cond.selects "Patternforge$Test$4" ({ cls := "java/lang/Object", name := "getClass", desc := "()Ljava/lang/Class;" } : Jvm.MethodName) ({ cls := "java/lang/Object", name := "getClass", desc := "()Ljava/lang/Class;" } : Jvm.MethodName)) ∈ lw_all := lw_g (lw_at lw_m2 39 rfl) rfl
theorem q1058 : (Jvm.Cond.selects "Patternforge$Test$4" ({ cls := "Patternforge$Test", name := "ordinal", desc := "()I" } : Jvm.MethodName) ({ cls := "java/lang/Enum", name := "ordinal", desc := "()I" } : Jvm.MethodName)) ∈ lw_all := lw_g (lw_at lw_m5 3 rfl) rfl
theorem q1654 : (Jvm.Cond.selects "Patternforge$Test$4" ({ cls := "Patternforge$Test", name := "goesOut", desc := "(II)I" } : Jvm.MethodName) ({ cls := "Patternforge$Test$4", name := "goesOut", desc := "(II)I" } : Jvm.MethodName)) ∈ lw_all := lw_g (lw_at lw_m7 119 rfl) rfl
theorem q1655 : (Jvm.Cond.instanceMethod ({ cls := "Patternforge$Test$4", name := "goesOut", desc := "(II)I" } : Jvm.MethodName)) ∈ lw_all := lw_g (lw_at lw_m7 120 rfl) rfl
theorem q1656 : (Jvm.Cond.code ({ cls := "Patternforge$Test$4", name := "goesOut", desc := "(II)I" } : Jvm.MethodName) prog_18_method_2_code (3 : Nat) (Option.some Jvm.ClassFile.FieldType.int)) ∈ lw_all := lw_g (lw_at lw_m7 121 rfl) rfl
theorem q2325 : (Jvm.Cond.castable "Patternforge$Test$4" "java/lang/Object") ∈ lw_tbl := lw_at lw_m10 70 rfl
theorem q2339 : (Jvm.Cond.castable "Patternforge$Test$4" "Patternforge$Test") ∈ lw_tbl := lw_at lw_m10 84 rfl
theorem q2300 : (Jvm.Cond.castable "Patternforge$Pattern" "java/lang/Object") ∈ lw_tbl := lw_at lw_m10 45 rfl
set_option maxRecDepth 100000
theorem q1170 : (Jvm.Cond.sameMethod "[B" "java/lang/Object" "clone" "()Ljava/lang/Object;") ∈ lw_all := lw_g (lw_at lw_m5 115 rfl) rfl
set_option maxRecDepth 100000
theorem q1171 : (Jvm.Cond.selects "[B" ({ cls := "[B", name := "clone", desc := "()Ljava/lang/Object;" } : Jvm.MethodName) ({ cls := "java/lang/Object", name := "clone", desc := "()Ljava/lang/Object;" } : Jvm.MethodName)) ∈ lw_all := lw_g (lw_at lw_m5 116 rfl) rfl
theorem q1172 : (Jvm.Cond.castable "[B" "java/lang/Cloneable") ∈ lw_tbl := lw_at lw_m5 117 rfl
theorem q2346 : (Jvm.Cond.castable "[B" "java/lang/Object") ∈ lw_tbl := lw_at lw_m10 91 rfl
theorem q1093 : (Jvm.Cond.sameMethod "[I" "java/lang/Object" "clone" "()Ljava/lang/Object;") ∈ lw_all := lw_g (lw_at lw_m5 38 rfl) rfl
set_option maxRecDepth 100000
theorem q1094 : (Jvm.Cond.selects "[I" ({ cls := "[I", name := "clone", desc := "()Ljava/lang/Object;" } : Jvm.MethodName) ({ cls := "java/lang/Object", name := "clone", desc := "()Ljava/lang/Object;" } : Jvm.MethodName)) ∈ lw_all := lw_g (lw_at lw_m5 39 rfl) rfl
theorem q1095 : (Jvm.Cond.castable "[I" "java/lang/Cloneable") ∈ lw_tbl := lw_at lw_m5 40 rfl
theorem q2344 : (Jvm.Cond.castable "[I" "java/lang/Object") ∈ lw_tbl := lw_at lw_m10 89 rfl
theorem q2350 : (Jvm.Cond.castable "[J" "java/lang/Object") ∈ lw_tbl := lw_at lw_m10 95 rfl
set_option maxRecDepth 100000
theorem q2347 : (Jvm.Cond.castable "[LPatternforge$Pattern;" "java/lang/Object") ∈ lw_tbl := lw_at lw_m10 92 rfl
set_option maxRecDepth 100000
theorem q1067 : (Jvm.Cond.sameMethod "[LPatternforge$Test;" "java/lang/Object" "clone" "()Ljava/lang/Object;") ∈ lw_all := lw_g (lw_at lw_m5 12 rfl) rfl
set_option maxRecDepth 100000
theorem q1070 : (Jvm.Cond.selects "[LPatternforge$Test;" ({ cls := "[LPatternforge$Test;", name := "clone", desc := "()Ljava/lang/Object;" } : Jvm.MethodName) ({ cls := "java/lang/Object", name := "clone", desc := "()Ljava/lang/Object;" } : Jvm.MethodName)) ∈ lw_all := lw_g (lw_at lw_m5 15 rfl) rfl
theorem q1071 : (Jvm.Cond.castable "[LPatternforge$Test;" "java/lang/Cloneable") ∈ lw_tbl := lw_at lw_m5 16 rfl
theorem q2348 : (Jvm.Cond.castable "[LPatternforge$Test;" "java/lang/Object") ∈ lw_tbl := lw_at lw_m10 93 rfl
theorem q2340 : (Jvm.Cond.sameMethod "[Ljava/lang/Object;" "java/lang/Object" "getClass" "()Ljava/lang/Class;") ∈ lw_all := lw_g (lw_at lw_m10 85 rfl) rfl
set_option maxRecDepth 100000
theorem q2341 : (Jvm.Cond.selects "[Ljava/lang/Object;" ({ cls := "java/lang/Object", name := "getClass", desc := "()Ljava/lang/Class;" } : Jvm.MethodName) ({ cls := "java/lang/Object", name := "getClass", desc := "()Ljava/lang/Class;" } : Jvm.MethodName)) ∈ lw_all := lw_g (lw_at lw_m10 86 rfl) rfl
theorem q2345 : (Jvm.Cond.castable "[Ljava/lang/Object;" "java/lang/Object") ∈ lw_tbl := lw_at lw_m10 90 rfl
theorem q2349 : (Jvm.Cond.castable "[Z" "java/lang/Object") ∈ lw_tbl := lw_at lw_m10 94 rfl
set_option maxRecDepth 100000
theorem q2343 : (Jvm.Cond.castable "[[I" "java/lang/Object") ∈ lw_tbl := lw_at lw_m10 88 rfl
set_option maxRecDepth 100000
theorem q107 : (Jvm.Cond.initialized "java/lang/System") ∈ lw_all := lw_g (lw_at lw_m1 12 rfl) rfl
set_option maxRecDepth 100000
theorem q397 : (Jvm.Cond.static ({ cls := "java/lang/System", name := "arraycopy", desc := "(Ljava/lang/Object;ILjava/lang/Object;II)V" } : Jvm.MethodName)) ∈ lw_all := lw_g (lw_at lw_m2 62 rfl) rfl
theorem q398 : (Jvm.Cond.native ({ cls := "java/lang/System", name := "arraycopy", desc := "(Ljava/lang/Object;ILjava/lang/Object;II)V" } : Jvm.MethodName)) ∈ lw_all := lw_g (lw_at lw_m2 63 rfl) rfl
theorem q172 : (Jvm.Cond.arrayOver (Jvm.ClassFile.FieldType.array Jvm.ClassFile.FieldType.int)) ∈ lw_tbl := lw_at lw_m1 77 rfl
set_option maxRecDepth 100000
theorem q223 : (Jvm.Cond.arrayClass Jvm.ClassFile.FieldType.int) ∈ lw_all := lw_g (lw_at lw_m1 128 rfl) rfl
theorem q391 : (Jvm.Cond.arrayOver (Jvm.ClassFile.FieldType.object "java/lang/Object")) ∈ lw_tbl := lw_at lw_m2 56 rfl
theorem q541 : (Jvm.Cond.arrayClass Jvm.ClassFile.FieldType.byte) ∈ lw_all := lw_g (lw_at lw_m2 206 rfl) rfl
theorem q846 : (Jvm.Cond.arrayOver (Jvm.ClassFile.FieldType.object "Patternforge$Pattern")) ∈ lw_tbl := lw_at lw_m4 31 rfl
theorem q1072 : (Jvm.Cond.arrayOver (Jvm.ClassFile.FieldType.object "Patternforge$Test")) ∈ lw_tbl := lw_at lw_m5 17 rfl
theorem q1972 : (Jvm.Cond.arrayClass Jvm.ClassFile.FieldType.boolean) ∈ lw_all := lw_g (lw_at lw_m8 197 rfl) rfl
theorem q2283 : (Jvm.Cond.arrayClass Jvm.ClassFile.FieldType.long) ∈ lw_all := lw_g (lw_at lw_m10 28 rfl) rfl
