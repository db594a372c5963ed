/-! DECODE ROWS BY BYTES: one lemma an opcode; a method's code is cut into short pieces once, and a row reads its own piece alone. -/
set_option maxRecDepth 100000
/-- the code has just these bytes from pc on -/
def DkAt (code : ByteArray) (pc : Nat) (bs : List UInt8) : Prop := ∀ (j : Nat) (b : UInt8), bs[j]? = some b → code.data.toList[pc + j]? = some b
/-- the piece W has the bytes bs from its place j on -/
def dkIn (W : List UInt8) (j : Nat) (bs : List UInt8) : Bool := decide ((W.drop j).take bs.length = bs)
theorem dk_seg {l W T : List UInt8} {o o2 : Nat} (h : l.drop o = W ++ T) (n : Nat) (hn : W.length = n) (ho : o + n = o2) : l.drop o2 = T := by
  subst ho
  rw [← List.drop_drop, h, List.drop_left' hn]
theorem dk_at {code : ByteArray} {W T bs : List UInt8} {o pc : Nat} (h : code.data.toList.drop o = W ++ T) (j : Nat) (hp : o + j = pc) (hw : dkIn W j bs = true) : DkAt code pc bs := by
  subst hp
  intro i b e
  have h1 := of_decide_eq_true hw
  have h2 : i < bs.length := (List.getElem?_eq_some_iff.mp e).1
  have h3 : W[j + i]? = some b := by
    rw [← h1, List.getElem?_take, if_pos h2, List.getElem?_drop] at e
    exact e
  have h4 : j + i < W.length := (List.getElem?_eq_some_iff.mp h3).1
  have h5 : (code.data.toList.drop o)[j + i]? = some b := by
    rw [h, List.getElem?_append_left h4]
    exact h3
  rw [List.getElem?_drop, ← Nat.add_assoc] at h5
  exact h5
theorem dk_u1 {A : ByteArray} {p : Nat} {b : UInt8} (h : A.data.toList[p]? = some b) : (Reader.u1 : Reader DecodeError Nat) A p = .ok (b.toNat, p + 1) := by
  obtain ⟨h1, h2⟩ := List.getElem?_eq_some_iff.mp h
  have h3 : p < A.size := by simpa using h1
  have h4 : A[p]'h3 = b := h2
  have e : (Reader.u1 : Reader DecodeError Nat) A p = (if h : p < A.size then .ok (A[p].toNat, p + 1) else .error (HasTruncated.truncated p)) := by
    show (do if h : p < A.size then do set (p + 1); Pure.pure A[p].toNat else MonadExcept.throw (HasTruncated.truncated p) : Reader DecodeError Nat) A p = _
    by_cases hi : p < A.size
    · rw [dif_pos hi, dif_pos hi]; rfl
    · rw [dif_neg hi, dif_neg hi]; rfl
  rw [e, dif_pos h3, h4]
theorem dk_bind {α β : Type} {r : Reader DecodeError α} {f : α → Reader DecodeError β} {A : ByteArray} {p s : Nat} {a : α} (h : r A p = .ok (a, s)) : (r >>= f) A p = f a A s := by
  show (do let (a, s) ← r A p; f a A s : Except DecodeError (β × Nat)) = _
  rw [h]
  rfl
theorem dk_map {α β : Type} {r : Reader DecodeError α} {g : α → β} {A : ByteArray} {p s : Nat} {a : α} (h : r A p = .ok (a, s)) : (g <$> r) A p = .ok (g a, s) := by
  show (do let (a, s) ← r A p; .ok (g a, s) : Except DecodeError (β × Nat)) = _
  rw [h]
  rfl
theorem dk_u2 {A : ByteArray} {p : Nat} {a b : UInt8} (h : A.data.toList[p]? = some a) (h2 : A.data.toList[p + 1]? = some b) : (Reader.u2 : Reader DecodeError Nat) A p = .ok (a.toNat * 256 + b.toNat, p + 2) := by
  show (Reader.u1 >>= fun hi => Reader.u1 >>= fun lo => Pure.pure (hi * 256 + lo) : Reader DecodeError Nat) A p = _
  rw [dk_bind (dk_u1 h), dk_bind (dk_u1 h2)]
  rfl
theorem dk_of {code : ByteArray} {pc n : Nat} {i : Instr} (h : Decoder.instr pc code pc = .ok (i, pc + n)) : decode code pc = .ok (i, n) := by
  have e : decode code pc = (match Decoder.instr pc code pc with | .error x => .error x | .ok (j, s) => .ok (j, s - pc)) := by
    show (do let (j, s) ← Decoder.instr pc code pc; Pure.pure (j, s - pc) : Except DecodeError (Instr × Nat)) = _
    cases Decoder.instr pc code pc <;> rfl
  rw [e, h]
  show Except.ok (i, pc + n - pc) = _
  rw [Nat.add_sub_cancel_left]
theorem dk_1 {code : ByteArray} {pc : Nat} (h : DkAt code pc [1]) : decode code pc = .ok (.aconst_null, 1) := dk_of ((dk_bind (dk_u1 (h 0 _ rfl))).trans rfl)
theorem dk_2 {code : ByteArray} {pc : Nat} (h : DkAt code pc [2]) : decode code pc = .ok (.iconst (-1), 1) := dk_of ((dk_bind (dk_u1 (h 0 _ rfl))).trans rfl)
theorem dk_3 {code : ByteArray} {pc : Nat} (h : DkAt code pc [3]) : decode code pc = .ok (.iconst 0, 1) := dk_of ((dk_bind (dk_u1 (h 0 _ rfl))).trans rfl)
theorem dk_4 {code : ByteArray} {pc : Nat} (h : DkAt code pc [4]) : decode code pc = .ok (.iconst 1, 1) := dk_of ((dk_bind (dk_u1 (h 0 _ rfl))).trans rfl)
theorem dk_5 {code : ByteArray} {pc : Nat} (h : DkAt code pc [5]) : decode code pc = .ok (.iconst 2, 1) := dk_of ((dk_bind (dk_u1 (h 0 _ rfl))).trans rfl)
theorem dk_6 {code : ByteArray} {pc : Nat} (h : DkAt code pc [6]) : decode code pc = .ok (.iconst 3, 1) := dk_of ((dk_bind (dk_u1 (h 0 _ rfl))).trans rfl)
theorem dk_7 {code : ByteArray} {pc : Nat} (h : DkAt code pc [7]) : decode code pc = .ok (.iconst 4, 1) := dk_of ((dk_bind (dk_u1 (h 0 _ rfl))).trans rfl)
theorem dk_8 {code : ByteArray} {pc : Nat} (h : DkAt code pc [8]) : decode code pc = .ok (.iconst 5, 1) := dk_of ((dk_bind (dk_u1 (h 0 _ rfl))).trans rfl)
theorem dk_9 {code : ByteArray} {pc : Nat} (h : DkAt code pc [9]) : decode code pc = .ok (.lconst 0, 1) := dk_of ((dk_bind (dk_u1 (h 0 _ rfl))).trans rfl)
theorem dk_10 {code : ByteArray} {pc : Nat} (h : DkAt code pc [10]) : decode code pc = .ok (.lconst 1, 1) := dk_of ((dk_bind (dk_u1 (h 0 _ rfl))).trans rfl)
theorem dk_16 {code : ByteArray} {pc : Nat} (a : UInt8) (h : DkAt code pc [16, a]) : decode code pc = .ok (.bipush (Reader.signed 8 a.toNat), 2) := dk_of ((dk_bind (dk_u1 (h 0 _ rfl))).trans ((dk_bind (dk_map (dk_u1 (h 1 _ rfl)))).trans rfl))
theorem dk_17 {code : ByteArray} {pc : Nat} (a b : UInt8) (h : DkAt code pc [17, a, b]) : decode code pc = .ok (.sipush (Reader.signed 16 (a.toNat * 256 + b.toNat)), 3) := dk_of ((dk_bind (dk_u1 (h 0 _ rfl))).trans ((dk_bind (dk_map (dk_u2 (h 1 _ rfl) (h 2 _ rfl)))).trans rfl))
theorem dk_18 {code : ByteArray} {pc : Nat} (a : UInt8) (h : DkAt code pc [18, a]) : decode code pc = .ok (.ldc a.toNat, 2) := dk_of ((dk_bind (dk_u1 (h 0 _ rfl))).trans ((dk_bind (dk_u1 (h 1 _ rfl))).trans rfl))
theorem dk_19 {code : ByteArray} {pc : Nat} (a b : UInt8) (h : DkAt code pc [19, a, b]) : decode code pc = .ok (.ldc_w (a.toNat * 256 + b.toNat), 3) := dk_of ((dk_bind (dk_u1 (h 0 _ rfl))).trans ((dk_bind (dk_u2 (h 1 _ rfl) (h 2 _ rfl))).trans rfl))
theorem dk_21 {code : ByteArray} {pc : Nat} (a : UInt8) (h : DkAt code pc [21, a]) : decode code pc = .ok (.iload a.toNat, 2) := dk_of ((dk_bind (dk_u1 (h 0 _ rfl))).trans ((dk_bind (dk_u1 (h 1 _ rfl))).trans rfl))
theorem dk_25 {code : ByteArray} {pc : Nat} (a : UInt8) (h : DkAt code pc [25, a]) : decode code pc = .ok (.aload a.toNat, 2) := dk_of ((dk_bind (dk_u1 (h 0 _ rfl))).trans ((dk_bind (dk_u1 (h 1 _ rfl))).trans rfl))
theorem dk_26 {code : ByteArray} {pc : Nat} (h : DkAt code pc [26]) : decode code pc = .ok (.iload_n 0, 1) := dk_of ((dk_bind (dk_u1 (h 0 _ rfl))).trans rfl)
theorem dk_27 {code : ByteArray} {pc : Nat} (h : DkAt code pc [27]) : decode code pc = .ok (.iload_n 1, 1) := dk_of ((dk_bind (dk_u1 (h 0 _ rfl))).trans rfl)
theorem dk_28 {code : ByteArray} {pc : Nat} (h : DkAt code pc [28]) : decode code pc = .ok (.iload_n 2, 1) := dk_of ((dk_bind (dk_u1 (h 0 _ rfl))).trans rfl)
theorem dk_29 {code : ByteArray} {pc : Nat} (h : DkAt code pc [29]) : decode code pc = .ok (.iload_n 3, 1) := dk_of ((dk_bind (dk_u1 (h 0 _ rfl))).trans rfl)
theorem dk_42 {code : ByteArray} {pc : Nat} (h : DkAt code pc [42]) : decode code pc = .ok (.aload_n 0, 1) := dk_of ((dk_bind (dk_u1 (h 0 _ rfl))).trans rfl)
theorem dk_43 {code : ByteArray} {pc : Nat} (h : DkAt code pc [43]) : decode code pc = .ok (.aload_n 1, 1) := dk_of ((dk_bind (dk_u1 (h 0 _ rfl))).trans rfl)
theorem dk_44 {code : ByteArray} {pc : Nat} (h : DkAt code pc [44]) : decode code pc = .ok (.aload_n 2, 1) := dk_of ((dk_bind (dk_u1 (h 0 _ rfl))).trans rfl)
theorem dk_45 {code : ByteArray} {pc : Nat} (h : DkAt code pc [45]) : decode code pc = .ok (.aload_n 3, 1) := dk_of ((dk_bind (dk_u1 (h 0 _ rfl))).trans rfl)
theorem dk_46 {code : ByteArray} {pc : Nat} (h : DkAt code pc [46]) : decode code pc = .ok (.iaload, 1) := dk_of ((dk_bind (dk_u1 (h 0 _ rfl))).trans rfl)
theorem dk_47 {code : ByteArray} {pc : Nat} (h : DkAt code pc [47]) : decode code pc = .ok (.laload, 1) := dk_of ((dk_bind (dk_u1 (h 0 _ rfl))).trans rfl)
theorem dk_50 {code : ByteArray} {pc : Nat} (h : DkAt code pc [50]) : decode code pc = .ok (.aaload, 1) := dk_of ((dk_bind (dk_u1 (h 0 _ rfl))).trans rfl)
theorem dk_51 {code : ByteArray} {pc : Nat} (h : DkAt code pc [51]) : decode code pc = .ok (.baload, 1) := dk_of ((dk_bind (dk_u1 (h 0 _ rfl))).trans rfl)
theorem dk_54 {code : ByteArray} {pc : Nat} (a : UInt8) (h : DkAt code pc [54, a]) : decode code pc = .ok (.istore a.toNat, 2) := dk_of ((dk_bind (dk_u1 (h 0 _ rfl))).trans ((dk_bind (dk_u1 (h 1 _ rfl))).trans rfl))
theorem dk_58 {code : ByteArray} {pc : Nat} (a : UInt8) (h : DkAt code pc [58, a]) : decode code pc = .ok (.astore a.toNat, 2) := dk_of ((dk_bind (dk_u1 (h 0 _ rfl))).trans ((dk_bind (dk_u1 (h 1 _ rfl))).trans rfl))
theorem dk_59 {code : ByteArray} {pc : Nat} (h : DkAt code pc [59]) : decode code pc = .ok (.istore_n 0, 1) := dk_of ((dk_bind (dk_u1 (h 0 _ rfl))).trans rfl)
theorem dk_60 {code : ByteArray} {pc : Nat} (h : DkAt code pc [60]) : decode code pc = .ok (.istore_n 1, 1) := dk_of ((dk_bind (dk_u1 (h 0 _ rfl))).trans rfl)
theorem dk_61 {code : ByteArray} {pc : Nat} (h : DkAt code pc [61]) : decode code pc = .ok (.istore_n 2, 1) := dk_of ((dk_bind (dk_u1 (h 0 _ rfl))).trans rfl)
theorem dk_62 {code : ByteArray} {pc : Nat} (h : DkAt code pc [62]) : decode code pc = .ok (.istore_n 3, 1) := dk_of ((dk_bind (dk_u1 (h 0 _ rfl))).trans rfl)
theorem dk_76 {code : ByteArray} {pc : Nat} (h : DkAt code pc [76]) : decode code pc = .ok (.astore_n 1, 1) := dk_of ((dk_bind (dk_u1 (h 0 _ rfl))).trans rfl)
theorem dk_77 {code : ByteArray} {pc : Nat} (h : DkAt code pc [77]) : decode code pc = .ok (.astore_n 2, 1) := dk_of ((dk_bind (dk_u1 (h 0 _ rfl))).trans rfl)
theorem dk_78 {code : ByteArray} {pc : Nat} (h : DkAt code pc [78]) : decode code pc = .ok (.astore_n 3, 1) := dk_of ((dk_bind (dk_u1 (h 0 _ rfl))).trans rfl)
theorem dk_79 {code : ByteArray} {pc : Nat} (h : DkAt code pc [79]) : decode code pc = .ok (.iastore, 1) := dk_of ((dk_bind (dk_u1 (h 0 _ rfl))).trans rfl)
theorem dk_80 {code : ByteArray} {pc : Nat} (h : DkAt code pc [80]) : decode code pc = .ok (.lastore, 1) := dk_of ((dk_bind (dk_u1 (h 0 _ rfl))).trans rfl)
theorem dk_83 {code : ByteArray} {pc : Nat} (h : DkAt code pc [83]) : decode code pc = .ok (.aastore, 1) := dk_of ((dk_bind (dk_u1 (h 0 _ rfl))).trans rfl)
theorem dk_84 {code : ByteArray} {pc : Nat} (h : DkAt code pc [84]) : decode code pc = .ok (.bastore, 1) := dk_of ((dk_bind (dk_u1 (h 0 _ rfl))).trans rfl)
theorem dk_87 {code : ByteArray} {pc : Nat} (h : DkAt code pc [87]) : decode code pc = .ok (.pop, 1) := dk_of ((dk_bind (dk_u1 (h 0 _ rfl))).trans rfl)
theorem dk_89 {code : ByteArray} {pc : Nat} (h : DkAt code pc [89]) : decode code pc = .ok (.dup, 1) := dk_of ((dk_bind (dk_u1 (h 0 _ rfl))).trans rfl)
theorem dk_92 {code : ByteArray} {pc : Nat} (h : DkAt code pc [92]) : decode code pc = .ok (.dup2, 1) := dk_of ((dk_bind (dk_u1 (h 0 _ rfl))).trans rfl)
theorem dk_96 {code : ByteArray} {pc : Nat} (h : DkAt code pc [96]) : decode code pc = .ok (.iadd, 1) := dk_of ((dk_bind (dk_u1 (h 0 _ rfl))).trans rfl)
theorem dk_100 {code : ByteArray} {pc : Nat} (h : DkAt code pc [100]) : decode code pc = .ok (.isub, 1) := dk_of ((dk_bind (dk_u1 (h 0 _ rfl))).trans rfl)
theorem dk_104 {code : ByteArray} {pc : Nat} (h : DkAt code pc [104]) : decode code pc = .ok (.imul, 1) := dk_of ((dk_bind (dk_u1 (h 0 _ rfl))).trans rfl)
theorem dk_108 {code : ByteArray} {pc : Nat} (h : DkAt code pc [108]) : decode code pc = .ok (.idiv, 1) := dk_of ((dk_bind (dk_u1 (h 0 _ rfl))).trans rfl)
theorem dk_112 {code : ByteArray} {pc : Nat} (h : DkAt code pc [112]) : decode code pc = .ok (.irem, 1) := dk_of ((dk_bind (dk_u1 (h 0 _ rfl))).trans rfl)
theorem dk_116 {code : ByteArray} {pc : Nat} (h : DkAt code pc [116]) : decode code pc = .ok (.ineg, 1) := dk_of ((dk_bind (dk_u1 (h 0 _ rfl))).trans rfl)
theorem dk_120 {code : ByteArray} {pc : Nat} (h : DkAt code pc [120]) : decode code pc = .ok (.ishl, 1) := dk_of ((dk_bind (dk_u1 (h 0 _ rfl))).trans rfl)
theorem dk_122 {code : ByteArray} {pc : Nat} (h : DkAt code pc [122]) : decode code pc = .ok (.ishr, 1) := dk_of ((dk_bind (dk_u1 (h 0 _ rfl))).trans rfl)
theorem dk_124 {code : ByteArray} {pc : Nat} (h : DkAt code pc [124]) : decode code pc = .ok (.iushr, 1) := dk_of ((dk_bind (dk_u1 (h 0 _ rfl))).trans rfl)
theorem dk_126 {code : ByteArray} {pc : Nat} (h : DkAt code pc [126]) : decode code pc = .ok (.iand, 1) := dk_of ((dk_bind (dk_u1 (h 0 _ rfl))).trans rfl)
theorem dk_128 {code : ByteArray} {pc : Nat} (h : DkAt code pc [128]) : decode code pc = .ok (.ior, 1) := dk_of ((dk_bind (dk_u1 (h 0 _ rfl))).trans rfl)
theorem dk_130 {code : ByteArray} {pc : Nat} (h : DkAt code pc [130]) : decode code pc = .ok (.ixor, 1) := dk_of ((dk_bind (dk_u1 (h 0 _ rfl))).trans rfl)
theorem dk_132 {code : ByteArray} {pc : Nat} (a b : UInt8) (h : DkAt code pc [132, a, b]) : decode code pc = .ok (.iinc a.toNat (Reader.signed 8 b.toNat), 3) := dk_of ((dk_bind (dk_u1 (h 0 _ rfl))).trans ((dk_bind (dk_u1 (h 1 _ rfl))).trans ((dk_bind (dk_map (dk_u1 (h 2 _ rfl)))).trans rfl)))
theorem dk_133 {code : ByteArray} {pc : Nat} (h : DkAt code pc [133]) : decode code pc = .ok (.i2l, 1) := dk_of ((dk_bind (dk_u1 (h 0 _ rfl))).trans rfl)
theorem dk_145 {code : ByteArray} {pc : Nat} (h : DkAt code pc [145]) : decode code pc = .ok (.i2b, 1) := dk_of ((dk_bind (dk_u1 (h 0 _ rfl))).trans rfl)
theorem dk_146 {code : ByteArray} {pc : Nat} (h : DkAt code pc [146]) : decode code pc = .ok (.i2c, 1) := dk_of ((dk_bind (dk_u1 (h 0 _ rfl))).trans rfl)
theorem dk_148 {code : ByteArray} {pc : Nat} (h : DkAt code pc [148]) : decode code pc = .ok (.lcmp, 1) := dk_of ((dk_bind (dk_u1 (h 0 _ rfl))).trans rfl)
theorem dk_153 {code : ByteArray} {pc : Nat} (a b : UInt8) (h : DkAt code pc [153, a, b]) : decode code pc = .ok (.ifCond .eq (Reader.signed 16 (a.toNat * 256 + b.toNat)), 3) := dk_of ((dk_bind (dk_u1 (h 0 _ rfl))).trans ((dk_bind (dk_map (dk_u2 (h 1 _ rfl) (h 2 _ rfl)))).trans rfl))
theorem dk_154 {code : ByteArray} {pc : Nat} (a b : UInt8) (h : DkAt code pc [154, a, b]) : decode code pc = .ok (.ifCond .ne (Reader.signed 16 (a.toNat * 256 + b.toNat)), 3) := dk_of ((dk_bind (dk_u1 (h 0 _ rfl))).trans ((dk_bind (dk_map (dk_u2 (h 1 _ rfl) (h 2 _ rfl)))).trans rfl))
theorem dk_155 {code : ByteArray} {pc : Nat} (a b : UInt8) (h : DkAt code pc [155, a, b]) : decode code pc = .ok (.ifCond .lt (Reader.signed 16 (a.toNat * 256 + b.toNat)), 3) := dk_of ((dk_bind (dk_u1 (h 0 _ rfl))).trans ((dk_bind (dk_map (dk_u2 (h 1 _ rfl) (h 2 _ rfl)))).trans rfl))
theorem dk_156 {code : ByteArray} {pc : Nat} (a b : UInt8) (h : DkAt code pc [156, a, b]) : decode code pc = .ok (.ifCond .ge (Reader.signed 16 (a.toNat * 256 + b.toNat)), 3) := dk_of ((dk_bind (dk_u1 (h 0 _ rfl))).trans ((dk_bind (dk_map (dk_u2 (h 1 _ rfl) (h 2 _ rfl)))).trans rfl))
theorem dk_158 {code : ByteArray} {pc : Nat} (a b : UInt8) (h : DkAt code pc [158, a, b]) : decode code pc = .ok (.ifCond .le (Reader.signed 16 (a.toNat * 256 + b.toNat)), 3) := dk_of ((dk_bind (dk_u1 (h 0 _ rfl))).trans ((dk_bind (dk_map (dk_u2 (h 1 _ rfl) (h 2 _ rfl)))).trans rfl))
theorem dk_159 {code : ByteArray} {pc : Nat} (a b : UInt8) (h : DkAt code pc [159, a, b]) : decode code pc = .ok (.if_icmp .eq (Reader.signed 16 (a.toNat * 256 + b.toNat)), 3) := dk_of ((dk_bind (dk_u1 (h 0 _ rfl))).trans ((dk_bind (dk_map (dk_u2 (h 1 _ rfl) (h 2 _ rfl)))).trans rfl))
theorem dk_160 {code : ByteArray} {pc : Nat} (a b : UInt8) (h : DkAt code pc [160, a, b]) : decode code pc = .ok (.if_icmp .ne (Reader.signed 16 (a.toNat * 256 + b.toNat)), 3) := dk_of ((dk_bind (dk_u1 (h 0 _ rfl))).trans ((dk_bind (dk_map (dk_u2 (h 1 _ rfl) (h 2 _ rfl)))).trans rfl))
theorem dk_161 {code : ByteArray} {pc : Nat} (a b : UInt8) (h : DkAt code pc [161, a, b]) : decode code pc = .ok (.if_icmp .lt (Reader.signed 16 (a.toNat * 256 + b.toNat)), 3) := dk_of ((dk_bind (dk_u1 (h 0 _ rfl))).trans ((dk_bind (dk_map (dk_u2 (h 1 _ rfl) (h 2 _ rfl)))).trans rfl))
theorem dk_162 {code : ByteArray} {pc : Nat} (a b : UInt8) (h : DkAt code pc [162, a, b]) : decode code pc = .ok (.if_icmp .ge (Reader.signed 16 (a.toNat * 256 + b.toNat)), 3) := dk_of ((dk_bind (dk_u1 (h 0 _ rfl))).trans ((dk_bind (dk_map (dk_u2 (h 1 _ rfl) (h 2 _ rfl)))).trans rfl))
theorem dk_163 {code : ByteArray} {pc : Nat} (a b : UInt8) (h : DkAt code pc [163, a, b]) : decode code pc = .ok (.if_icmp .gt (Reader.signed 16 (a.toNat * 256 + b.toNat)), 3) := dk_of ((dk_bind (dk_u1 (h 0 _ rfl))).trans ((dk_bind (dk_map (dk_u2 (h 1 _ rfl) (h 2 _ rfl)))).trans rfl))
theorem dk_164 {code : ByteArray} {pc : Nat} (a b : UInt8) (h : DkAt code pc [164, a, b]) : decode code pc = .ok (.if_icmp .le (Reader.signed 16 (a.toNat * 256 + b.toNat)), 3) := dk_of ((dk_bind (dk_u1 (h 0 _ rfl))).trans ((dk_bind (dk_map (dk_u2 (h 1 _ rfl) (h 2 _ rfl)))).trans rfl))
theorem dk_167 {code : ByteArray} {pc : Nat} (a b : UInt8) (h : DkAt code pc [167, a, b]) : decode code pc = .ok (.goto (Reader.signed 16 (a.toNat * 256 + b.toNat)), 3) := dk_of ((dk_bind (dk_u1 (h 0 _ rfl))).trans ((dk_bind (dk_map (dk_u2 (h 1 _ rfl) (h 2 _ rfl)))).trans rfl))
theorem dk_172 {code : ByteArray} {pc : Nat} (h : DkAt code pc [172]) : decode code pc = .ok (.ireturn, 1) := dk_of ((dk_bind (dk_u1 (h 0 _ rfl))).trans rfl)
theorem dk_176 {code : ByteArray} {pc : Nat} (h : DkAt code pc [176]) : decode code pc = .ok (.areturn, 1) := dk_of ((dk_bind (dk_u1 (h 0 _ rfl))).trans rfl)
theorem dk_177 {code : ByteArray} {pc : Nat} (h : DkAt code pc [177]) : decode code pc = .ok (.return_, 1) := dk_of ((dk_bind (dk_u1 (h 0 _ rfl))).trans rfl)
theorem dk_178 {code : ByteArray} {pc : Nat} (a b : UInt8) (h : DkAt code pc [178, a, b]) : decode code pc = .ok (.getstatic (a.toNat * 256 + b.toNat), 3) := dk_of ((dk_bind (dk_u1 (h 0 _ rfl))).trans ((dk_bind (dk_u2 (h 1 _ rfl) (h 2 _ rfl))).trans rfl))
theorem dk_180 {code : ByteArray} {pc : Nat} (a b : UInt8) (h : DkAt code pc [180, a, b]) : decode code pc = .ok (.getfield (a.toNat * 256 + b.toNat), 3) := dk_of ((dk_bind (dk_u1 (h 0 _ rfl))).trans ((dk_bind (dk_u2 (h 1 _ rfl) (h 2 _ rfl))).trans rfl))
theorem dk_181 {code : ByteArray} {pc : Nat} (a b : UInt8) (h : DkAt code pc [181, a, b]) : decode code pc = .ok (.putfield (a.toNat * 256 + b.toNat), 3) := dk_of ((dk_bind (dk_u1 (h 0 _ rfl))).trans ((dk_bind (dk_u2 (h 1 _ rfl) (h 2 _ rfl))).trans rfl))
theorem dk_182 {code : ByteArray} {pc : Nat} (a b : UInt8) (h : DkAt code pc [182, a, b]) : decode code pc = .ok (.invokevirtual (a.toNat * 256 + b.toNat), 3) := dk_of ((dk_bind (dk_u1 (h 0 _ rfl))).trans ((dk_bind (dk_u2 (h 1 _ rfl) (h 2 _ rfl))).trans rfl))
theorem dk_183 {code : ByteArray} {pc : Nat} (a b : UInt8) (h : DkAt code pc [183, a, b]) : decode code pc = .ok (.invokespecial (a.toNat * 256 + b.toNat), 3) := dk_of ((dk_bind (dk_u1 (h 0 _ rfl))).trans ((dk_bind (dk_u2 (h 1 _ rfl) (h 2 _ rfl))).trans rfl))
theorem dk_184 {code : ByteArray} {pc : Nat} (a b : UInt8) (h : DkAt code pc [184, a, b]) : decode code pc = .ok (.invokestatic (a.toNat * 256 + b.toNat), 3) := dk_of ((dk_bind (dk_u1 (h 0 _ rfl))).trans ((dk_bind (dk_u2 (h 1 _ rfl) (h 2 _ rfl))).trans rfl))
theorem dk_187 {code : ByteArray} {pc : Nat} (a b : UInt8) (h : DkAt code pc [187, a, b]) : decode code pc = .ok (.new (a.toNat * 256 + b.toNat), 3) := dk_of ((dk_bind (dk_u1 (h 0 _ rfl))).trans ((dk_bind (dk_u2 (h 1 _ rfl) (h 2 _ rfl))).trans rfl))
theorem dk_188_8 {code : ByteArray} {pc : Nat} (h : DkAt code pc [188, 8]) : decode code pc = .ok (.newarray .byte, 2) := dk_of ((dk_bind (dk_u1 (h 0 _ rfl))).trans ((dk_bind (dk_u1 (h 1 _ rfl))).trans rfl))
theorem dk_188_10 {code : ByteArray} {pc : Nat} (h : DkAt code pc [188, 10]) : decode code pc = .ok (.newarray .int, 2) := dk_of ((dk_bind (dk_u1 (h 0 _ rfl))).trans ((dk_bind (dk_u1 (h 1 _ rfl))).trans rfl))
theorem dk_188_11 {code : ByteArray} {pc : Nat} (h : DkAt code pc [188, 11]) : decode code pc = .ok (.newarray .long, 2) := dk_of ((dk_bind (dk_u1 (h 0 _ rfl))).trans ((dk_bind (dk_u1 (h 1 _ rfl))).trans rfl))
theorem dk_189 {code : ByteArray} {pc : Nat} (a b : UInt8) (h : DkAt code pc [189, a, b]) : decode code pc = .ok (.anewarray (a.toNat * 256 + b.toNat), 3) := dk_of ((dk_bind (dk_u1 (h 0 _ rfl))).trans ((dk_bind (dk_u2 (h 1 _ rfl) (h 2 _ rfl))).trans rfl))
theorem dk_190 {code : ByteArray} {pc : Nat} (h : DkAt code pc [190]) : decode code pc = .ok (.arraylength, 1) := dk_of ((dk_bind (dk_u1 (h 0 _ rfl))).trans rfl)
theorem dk_191 {code : ByteArray} {pc : Nat} (h : DkAt code pc [191]) : decode code pc = .ok (.athrow, 1) := dk_of ((dk_bind (dk_u1 (h 0 _ rfl))).trans rfl)
theorem dk_198 {code : ByteArray} {pc : Nat} (a b : UInt8) (h : DkAt code pc [198, a, b]) : decode code pc = .ok (.ifnull (Reader.signed 16 (a.toNat * 256 + b.toNat)), 3) := dk_of ((dk_bind (dk_u1 (h 0 _ rfl))).trans ((dk_bind (dk_map (dk_u2 (h 1 _ rfl) (h 2 _ rfl)))).trans rfl))

/-! java/lang/Throwable -/
set_option maxRecDepth 100000
def RJ0 : String := "java/lang/Throwable"
def TJ0 : u_T := fun k => match k with
  | 0 => ("java/lang/Throwable", "cause", "Ljava/lang/Throwable;", false)
  | 1 => ("java/lang/Throwable", "stackTrace", "[Ljava/lang/StackTraceElement;", false)
  | 2 => ("java/lang/Throwable", "suppressedExceptions", "Ljava/util/List;", false)
  | 3 => ("java/lang/Throwable", "detailMessage", "Ljava/lang/String;", false)
  | _ => ("java/lang/Throwable", "backtrace", "Ljava/lang/Object;", false)
def tyJ0 : Nat → FieldType := fun k => match k with
  | 0 => .object "java/lang/Throwable"
  | 1 => .array (.object "java/lang/StackTraceElement")
  | 2 => .object "java/util/List"
  | 3 => .object "java/lang/String"
  | _ => .object "java/lang/Object"
abbrev wsJ00 : List Cond := u_ws RJ0 TJ0 5
theorem nmJ0 : ∀ a, a < 5 → ∀ b, b < 5 → a ≠ b → (TJ0 a).2.1 ≠ (TJ0 b).2.1 := by decide +kernel
theorem tyJ0_ok : ∀ k, k < 5 → parseFieldDescriptor (TJ0 k).2.2.1 = some (tyJ0 k) := by decide +kernel
abbrev cJ0_init : ByteArray := prog_34_method_1_code
def yJ0_init : MethodName := ⟨RJ0, "<init>", "()V"⟩
def dkwJ0_init_1 : List UInt8 := [182, 0, 27, 87, 177]
abbrev dktJ0_init_1 : List UInt8 := dkwJ0_init_1 ++ []
def dkwJ0_init_0 : List UInt8 := [42, 183, 0, 1, 42, 42, 181, 0, 7, 42, 178, 0, 13, 181, 0, 17, 42, 178, 0, 20, 181, 0, 24, 42]
abbrev dktJ0_init_0 : List UInt8 := dkwJ0_init_0 ++ dktJ0_init_1
theorem dksJ0_init_0 : cJ0_init.data.toList.drop 0 = dktJ0_init_0 := by decide +kernel
theorem dksJ0_init_1 : cJ0_init.data.toList.drop 24 = dktJ0_init_1 := dk_seg dksJ0_init_0 24 rfl rfl
theorem dJ0_init_0 : decode cJ0_init 0 = .ok (.aload_n 0, 1) := dk_42 (dk_at dksJ0_init_0 0 rfl rfl)
theorem dJ0_init_1 : decode cJ0_init 1 = .ok (.invokespecial 1, 3) := dk_183 0 1 (dk_at dksJ0_init_0 1 rfl rfl)
theorem dJ0_init_4 : decode cJ0_init 4 = .ok (.aload_n 0, 1) := dk_42 (dk_at dksJ0_init_0 4 rfl rfl)
theorem dJ0_init_5 : decode cJ0_init 5 = .ok (.aload_n 0, 1) := dk_42 (dk_at dksJ0_init_0 5 rfl rfl)
theorem dJ0_init_6 : decode cJ0_init 6 = .ok (.putfield 7, 3) := dk_181 0 7 (dk_at dksJ0_init_0 6 rfl rfl)
theorem dJ0_init_9 : decode cJ0_init 9 = .ok (.aload_n 0, 1) := dk_42 (dk_at dksJ0_init_0 9 rfl rfl)
theorem dJ0_init_10 : decode cJ0_init 10 = .ok (.getstatic 13, 3) := dk_178 0 13 (dk_at dksJ0_init_0 10 rfl rfl)
theorem dJ0_init_13 : decode cJ0_init 13 = .ok (.putfield 17, 3) := dk_181 0 17 (dk_at dksJ0_init_0 13 rfl rfl)
theorem dJ0_init_16 : decode cJ0_init 16 = .ok (.aload_n 0, 1) := dk_42 (dk_at dksJ0_init_0 16 rfl rfl)
theorem dJ0_init_17 : decode cJ0_init 17 = .ok (.getstatic 20, 3) := dk_178 0 20 (dk_at dksJ0_init_0 17 rfl rfl)
theorem dJ0_init_20 : decode cJ0_init 20 = .ok (.putfield 24, 3) := dk_181 0 24 (dk_at dksJ0_init_0 20 rfl rfl)
theorem dJ0_init_23 : decode cJ0_init 23 = .ok (.aload_n 0, 1) := dk_42 (dk_at dksJ0_init_0 23 rfl rfl)
theorem dJ0_init_24 : decode cJ0_init 24 = .ok (.invokevirtual 27, 3) := dk_182 0 27 (dk_at dksJ0_init_1 0 rfl rfl)
theorem dJ0_init_27 : decode cJ0_init 27 = .ok (.pop, 1) := dk_87 (dk_at dksJ0_init_1 3 rfl rfl)
theorem dJ0_init_28 : decode cJ0_init 28 = .ok (.return_, 1) := dk_177 (dk_at dksJ0_init_1 4 rfl rfl)
abbrev cJ0_init_2 : ByteArray := prog_34_method_5_code
def yJ0_init_2 : MethodName := ⟨RJ0, "<init>", "(Ljava/lang/String;Ljava/lang/Throwable;ZZ)V"⟩
def dkwJ0_init_2_2 : List UInt8 := [44, 181, 0, 7, 29, 154, 0, 8, 42, 1, 181, 0, 24, 177]
abbrev dktJ0_init_2_2 : List UInt8 := dkwJ0_init_2_2 ++ []
def dkwJ0_init_2_1 : List UInt8 := [21, 4, 153, 0, 11, 42, 182, 0, 27, 87, 167, 0, 8, 42, 1, 181, 0, 17, 42, 43, 181, 0, 31, 42]
abbrev dktJ0_init_2_1 : List UInt8 := dkwJ0_init_2_1 ++ dktJ0_init_2_2
def dkwJ0_init_2_0 : List UInt8 := [42, 183, 0, 1, 42, 42, 181, 0, 7, 42, 178, 0, 13, 181, 0, 17, 42, 178, 0, 20, 181, 0, 24]
abbrev dktJ0_init_2_0 : List UInt8 := dkwJ0_init_2_0 ++ dktJ0_init_2_1
theorem dksJ0_init_2_0 : cJ0_init_2.data.toList.drop 0 = dktJ0_init_2_0 := by decide +kernel
theorem dksJ0_init_2_1 : cJ0_init_2.data.toList.drop 23 = dktJ0_init_2_1 := dk_seg dksJ0_init_2_0 23 rfl rfl
theorem dksJ0_init_2_2 : cJ0_init_2.data.toList.drop 47 = dktJ0_init_2_2 := dk_seg dksJ0_init_2_1 24 rfl rfl
theorem dJ0_init_2_0 : decode cJ0_init_2 0 = .ok (.aload_n 0, 1) := dk_42 (dk_at dksJ0_init_2_0 0 rfl rfl)
theorem dJ0_init_2_1 : decode cJ0_init_2 1 = .ok (.invokespecial 1, 3) := dk_183 0 1 (dk_at dksJ0_init_2_0 1 rfl rfl)
theorem dJ0_init_2_4 : decode cJ0_init_2 4 = .ok (.aload_n 0, 1) := dk_42 (dk_at dksJ0_init_2_0 4 rfl rfl)
theorem dJ0_init_2_5 : decode cJ0_init_2 5 = .ok (.aload_n 0, 1) := dk_42 (dk_at dksJ0_init_2_0 5 rfl rfl)
theorem dJ0_init_2_6 : decode cJ0_init_2 6 = .ok (.putfield 7, 3) := dk_181 0 7 (dk_at dksJ0_init_2_0 6 rfl rfl)
theorem dJ0_init_2_9 : decode cJ0_init_2 9 = .ok (.aload_n 0, 1) := dk_42 (dk_at dksJ0_init_2_0 9 rfl rfl)
theorem dJ0_init_2_10 : decode cJ0_init_2 10 = .ok (.getstatic 13, 3) := dk_178 0 13 (dk_at dksJ0_init_2_0 10 rfl rfl)
theorem dJ0_init_2_13 : decode cJ0_init_2 13 = .ok (.putfield 17, 3) := dk_181 0 17 (dk_at dksJ0_init_2_0 13 rfl rfl)
theorem dJ0_init_2_16 : decode cJ0_init_2 16 = .ok (.aload_n 0, 1) := dk_42 (dk_at dksJ0_init_2_0 16 rfl rfl)
theorem dJ0_init_2_17 : decode cJ0_init_2 17 = .ok (.getstatic 20, 3) := dk_178 0 20 (dk_at dksJ0_init_2_0 17 rfl rfl)
theorem dJ0_init_2_20 : decode cJ0_init_2 20 = .ok (.putfield 24, 3) := dk_181 0 24 (dk_at dksJ0_init_2_0 20 rfl rfl)
theorem dJ0_init_2_23 : decode cJ0_init_2 23 = .ok (.iload 4, 2) := dk_21 4 (dk_at dksJ0_init_2_1 0 rfl rfl)
theorem dJ0_init_2_25 : decode cJ0_init_2 25 = .ok (.ifCond .eq 11, 3) := dk_153 0 11 (dk_at dksJ0_init_2_1 2 rfl rfl)
theorem dJ0_init_2_28 : decode cJ0_init_2 28 = .ok (.aload_n 0, 1) := dk_42 (dk_at dksJ0_init_2_1 5 rfl rfl)
theorem dJ0_init_2_29 : decode cJ0_init_2 29 = .ok (.invokevirtual 27, 3) := dk_182 0 27 (dk_at dksJ0_init_2_1 6 rfl rfl)
theorem dJ0_init_2_32 : decode cJ0_init_2 32 = .ok (.pop, 1) := dk_87 (dk_at dksJ0_init_2_1 9 rfl rfl)
theorem dJ0_init_2_33 : decode cJ0_init_2 33 = .ok (.goto 8, 3) := dk_167 0 8 (dk_at dksJ0_init_2_1 10 rfl rfl)
theorem dJ0_init_2_36 : decode cJ0_init_2 36 = .ok (.aload_n 0, 1) := dk_42 (dk_at dksJ0_init_2_1 13 rfl rfl)
theorem dJ0_init_2_37 : decode cJ0_init_2 37 = .ok (.aconst_null, 1) := dk_1 (dk_at dksJ0_init_2_1 14 rfl rfl)
theorem dJ0_init_2_38 : decode cJ0_init_2 38 = .ok (.putfield 17, 3) := dk_181 0 17 (dk_at dksJ0_init_2_1 15 rfl rfl)
theorem dJ0_init_2_41 : decode cJ0_init_2 41 = .ok (.aload_n 0, 1) := dk_42 (dk_at dksJ0_init_2_1 18 rfl rfl)
theorem dJ0_init_2_42 : decode cJ0_init_2 42 = .ok (.aload_n 1, 1) := dk_43 (dk_at dksJ0_init_2_1 19 rfl rfl)
theorem dJ0_init_2_43 : decode cJ0_init_2 43 = .ok (.putfield 31, 3) := dk_181 0 31 (dk_at dksJ0_init_2_1 20 rfl rfl)
theorem dJ0_init_2_46 : decode cJ0_init_2 46 = .ok (.aload_n 0, 1) := dk_42 (dk_at dksJ0_init_2_1 23 rfl rfl)
theorem dJ0_init_2_47 : decode cJ0_init_2 47 = .ok (.aload_n 2, 1) := dk_44 (dk_at dksJ0_init_2_2 0 rfl rfl)
theorem dJ0_init_2_48 : decode cJ0_init_2 48 = .ok (.putfield 7, 3) := dk_181 0 7 (dk_at dksJ0_init_2_2 1 rfl rfl)
theorem dJ0_init_2_51 : decode cJ0_init_2 51 = .ok (.iload_n 3, 1) := dk_29 (dk_at dksJ0_init_2_2 4 rfl rfl)
theorem dJ0_init_2_52 : decode cJ0_init_2 52 = .ok (.ifCond .ne 8, 3) := dk_154 0 8 (dk_at dksJ0_init_2_2 5 rfl rfl)
theorem dJ0_init_2_55 : decode cJ0_init_2 55 = .ok (.aload_n 0, 1) := dk_42 (dk_at dksJ0_init_2_2 8 rfl rfl)
theorem dJ0_init_2_56 : decode cJ0_init_2 56 = .ok (.aconst_null, 1) := dk_1 (dk_at dksJ0_init_2_2 9 rfl rfl)
theorem dJ0_init_2_57 : decode cJ0_init_2 57 = .ok (.putfield 24, 3) := dk_181 0 24 (dk_at dksJ0_init_2_2 10 rfl rfl)
theorem dJ0_init_2_60 : decode cJ0_init_2 60 = .ok (.return_, 1) := dk_177 (dk_at dksJ0_init_2_2 13 rfl rfl)
abbrev cJ0_init_3 : ByteArray := prog_34_method_2_code
def yJ0_init_3 : MethodName := ⟨RJ0, "<init>", "(Ljava/lang/String;)V"⟩
def dkwJ0_init_3_1 : List UInt8 := [182, 0, 27, 87, 42, 43, 181, 0, 31, 177]
abbrev dktJ0_init_3_1 : List UInt8 := dkwJ0_init_3_1 ++ []
def dkwJ0_init_3_0 : List UInt8 := [42, 183, 0, 1, 42, 42, 181, 0, 7, 42, 178, 0, 13, 181, 0, 17, 42, 178, 0, 20, 181, 0, 24, 42]
abbrev dktJ0_init_3_0 : List UInt8 := dkwJ0_init_3_0 ++ dktJ0_init_3_1
theorem dksJ0_init_3_0 : cJ0_init_3.data.toList.drop 0 = dktJ0_init_3_0 := by decide +kernel
theorem dksJ0_init_3_1 : cJ0_init_3.data.toList.drop 24 = dktJ0_init_3_1 := dk_seg dksJ0_init_3_0 24 rfl rfl
theorem dJ0_init_3_0 : decode cJ0_init_3 0 = .ok (.aload_n 0, 1) := dk_42 (dk_at dksJ0_init_3_0 0 rfl rfl)
theorem dJ0_init_3_1 : decode cJ0_init_3 1 = .ok (.invokespecial 1, 3) := dk_183 0 1 (dk_at dksJ0_init_3_0 1 rfl rfl)
theorem dJ0_init_3_4 : decode cJ0_init_3 4 = .ok (.aload_n 0, 1) := dk_42 (dk_at dksJ0_init_3_0 4 rfl rfl)
theorem dJ0_init_3_5 : decode cJ0_init_3 5 = .ok (.aload_n 0, 1) := dk_42 (dk_at dksJ0_init_3_0 5 rfl rfl)
theorem dJ0_init_3_6 : decode cJ0_init_3 6 = .ok (.putfield 7, 3) := dk_181 0 7 (dk_at dksJ0_init_3_0 6 rfl rfl)
theorem dJ0_init_3_9 : decode cJ0_init_3 9 = .ok (.aload_n 0, 1) := dk_42 (dk_at dksJ0_init_3_0 9 rfl rfl)
theorem dJ0_init_3_10 : decode cJ0_init_3 10 = .ok (.getstatic 13, 3) := dk_178 0 13 (dk_at dksJ0_init_3_0 10 rfl rfl)
theorem dJ0_init_3_13 : decode cJ0_init_3 13 = .ok (.putfield 17, 3) := dk_181 0 17 (dk_at dksJ0_init_3_0 13 rfl rfl)
theorem dJ0_init_3_16 : decode cJ0_init_3 16 = .ok (.aload_n 0, 1) := dk_42 (dk_at dksJ0_init_3_0 16 rfl rfl)
theorem dJ0_init_3_17 : decode cJ0_init_3 17 = .ok (.getstatic 20, 3) := dk_178 0 20 (dk_at dksJ0_init_3_0 17 rfl rfl)
theorem dJ0_init_3_20 : decode cJ0_init_3 20 = .ok (.putfield 24, 3) := dk_181 0 24 (dk_at dksJ0_init_3_0 20 rfl rfl)
theorem dJ0_init_3_23 : decode cJ0_init_3 23 = .ok (.aload_n 0, 1) := dk_42 (dk_at dksJ0_init_3_0 23 rfl rfl)
theorem dJ0_init_3_24 : decode cJ0_init_3 24 = .ok (.invokevirtual 27, 3) := dk_182 0 27 (dk_at dksJ0_init_3_1 0 rfl rfl)
theorem dJ0_init_3_27 : decode cJ0_init_3 27 = .ok (.pop, 1) := dk_87 (dk_at dksJ0_init_3_1 3 rfl rfl)
theorem dJ0_init_3_28 : decode cJ0_init_3 28 = .ok (.aload_n 0, 1) := dk_42 (dk_at dksJ0_init_3_1 4 rfl rfl)
theorem dJ0_init_3_29 : decode cJ0_init_3 29 = .ok (.aload_n 1, 1) := dk_43 (dk_at dksJ0_init_3_1 5 rfl rfl)
theorem dJ0_init_3_30 : decode cJ0_init_3 30 = .ok (.putfield 31, 3) := dk_181 0 31 (dk_at dksJ0_init_3_1 6 rfl rfl)
theorem dJ0_init_3_33 : decode cJ0_init_3 33 = .ok (.return_, 1) := dk_177 (dk_at dksJ0_init_3_1 9 rfl rfl)
theorem q127 : (Jvm.Cond.initialized "java/lang/Throwable") ∈ lw_all := lw_g (lw_at lw_m1 6 rfl) rfl
theorem q338 : (Jvm.Cond.declares ({ cls := "java/lang/Throwable", name := "<init>", desc := "()V" } : Jvm.MethodName)) ∈ lw_tbl := lw_at lw_m1 217 rfl
theorem q339 : (Jvm.Cond.declares ({ cls := "java/lang/Throwable", name := "<init>", desc := "(Ljava/lang/String;)V" } : Jvm.MethodName)) ∈ lw_tbl := lw_at lw_m1 218 rfl
theorem q343 : (Jvm.Cond.lays "java/lang/Throwable" "java/lang/Throwable" "cause" "Ljava/lang/Throwable;") ∈ lw_all := lw_g (lw_at lw_m1 222 rfl) rfl
theorem q345 : (Jvm.Cond.lays "java/lang/Throwable" "java/lang/Throwable" "stackTrace" "[Ljava/lang/StackTraceElement;") ∈ lw_all := lw_g (lw_at lw_m1 224 rfl) rfl
theorem q347 : (Jvm.Cond.lays "java/lang/Throwable" "java/lang/Throwable" "suppressedExceptions" "Ljava/util/List;") ∈ lw_all := lw_g (lw_at lw_m1 226 rfl) rfl
theorem q349 : (Jvm.Cond.lays "java/lang/Throwable" "java/lang/Throwable" "detailMessage" "Ljava/lang/String;") ∈ lw_all := lw_g (lw_at lw_m1 228 rfl) rfl
theorem q351 : (Jvm.Cond.lays "java/lang/Throwable" "java/lang/Throwable" "backtrace" "Ljava/lang/Object;") ∈ lw_all := lw_g (lw_at lw_m1 230 rfl) rfl
theorem q352 : (Jvm.Cond.fieldLink "java/lang/Throwable" (198 : Nat) "java/lang/Throwable" "backtrace" "Ljava/lang/Object;") ∈ lw_all := lw_g (lw_at lw_m1 231 rfl) rfl
theorem q353 : (Jvm.Cond.superclass "java/lang/Throwable" "java/lang/Object") ∈ lw_all := lw_g (lw_at lw_m1 232 rfl) rfl
theorem q354 : (Jvm.Cond.instanceMethod ({ cls := "java/lang/Throwable", name := "<init>", desc := "()V" } : Jvm.MethodName)) ∈ lw_all := lw_g (lw_at lw_m1 233 rfl) rfl
theorem q355 : (Jvm.Cond.code ({ cls := "java/lang/Throwable", name := "<init>", desc := "()V" } : Jvm.MethodName) prog_34_method_1_code (1 : Nat) (Option.none : Option Jvm.ClassFile.FieldType)) ∈ lw_all := lw_g (lw_at lw_m1 234 rfl) rfl
theorem q356 : (Jvm.Cond.methodLink "java/lang/Throwable" (1 : Nat) ({ cls := "java/lang/Object", name := "<init>", desc := "()V" } : Jvm.MethodName)) ∈ lw_all := lw_g (lw_at lw_m1 235 rfl) rfl
theorem q357 : (Jvm.Cond.fieldLink "java/lang/Throwable" (13 : Nat) "java/lang/Throwable" "UNASSIGNED_STACK" "[Ljava/lang/StackTraceElement;") ∈ lw_all := lw_g (lw_at lw_m1 236 rfl) rfl
theorem q358 : (Jvm.Cond.laysStatic "java/lang/Throwable" "UNASSIGNED_STACK" "[Ljava/lang/StackTraceElement;") ∈ lw_tbl := lw_at lw_m1 237 rfl
theorem q359 : (Jvm.Cond.fieldLink "java/lang/Throwable" (20 : Nat) "java/lang/Throwable" "SUPPRESSED_SENTINEL" "Ljava/util/List;") ∈ lw_all := lw_g (lw_at lw_m1 238 rfl) rfl
theorem q360 : (Jvm.Cond.laysStatic "java/lang/Throwable" "SUPPRESSED_SENTINEL" "Ljava/util/List;") ∈ lw_tbl := lw_at lw_m1 239 rfl
theorem q361 : (Jvm.Cond.methodLink "java/lang/Throwable" (27 : Nat) ({ cls := "java/lang/Throwable", name := "fillInStackTrace", desc := "()Ljava/lang/Throwable;" } : Jvm.MethodName)) ∈ lw_all := lw_g (lw_at lw_m2 0 rfl) rfl
theorem q362 : (Jvm.Cond.instanceMethod ({ cls := "java/lang/Throwable", name := "fillInStackTrace", desc := "()Ljava/lang/Throwable;" } : Jvm.MethodName)) ∈ lw_all := lw_g (lw_at lw_m2 1 rfl) rfl
theorem q363 : (Jvm.Cond.sameMethod "java/lang/Throwable" "java/lang/Throwable" "fillInStackTrace" "()Ljava/lang/Throwable;") ∈ lw_all := lw_g (lw_at lw_m2 2 rfl) rfl
theorem q370 : (Jvm.Cond.codeSync ({ cls := "java/lang/Throwable", name := "fillInStackTrace", desc := "()Ljava/lang/Throwable;" } : Jvm.MethodName) prog_34_method_18_code (1 : Nat) (Option.some (Jvm.ClassFile.FieldType.object "java/lang/Throwable"))) ∈ lw_all := lw_g (lw_at lw_m2 9 rfl) rfl
theorem q371 : (Jvm.Cond.methodLink "java/lang/Throwable" (202 : Nat) ({ cls := "java/lang/Throwable", name := "fillInStackTrace", desc := "(I)Ljava/lang/Throwable;" } : Jvm.MethodName)) ∈ lw_all := lw_g (lw_at lw_m2 10 rfl) rfl
theorem q372 : (Jvm.Cond.privateMethod ({ cls := "java/lang/Throwable", name := "fillInStackTrace", desc := "(I)Ljava/lang/Throwable;" } : Jvm.MethodName)) ∈ lw_tbl := lw_at lw_m2 11 rfl
theorem q373 : (Jvm.Cond.instanceMethod ({ cls := "java/lang/Throwable", name := "fillInStackTrace", desc := "(I)Ljava/lang/Throwable;" } : Jvm.MethodName)) ∈ lw_all := lw_g (lw_at lw_m2 12 rfl) rfl
theorem q374 : (Jvm.Cond.instantiable "java/lang/Throwable" (6 : Nat)) ∈ lw_all := lw_g (lw_at lw_m2 13 rfl) rfl
theorem q375 : (Jvm.Cond.native ({ cls := "java/lang/Throwable", name := "fillInStackTrace", desc := "(I)Ljava/lang/Throwable;" } : Jvm.MethodName)) ∈ lw_all := lw_g (lw_at lw_m2 14 rfl) rfl
theorem q386 : (Jvm.Cond.instanceMethod ({ cls := "java/lang/Throwable", name := "<init>", desc := "(Ljava/lang/String;Ljava/lang/Throwable;ZZ)V" } : Jvm.MethodName)) ∈ lw_all := lw_g (lw_at lw_m2 25 rfl) rfl
theorem q387 : (Jvm.Cond.code ({ cls := "java/lang/Throwable", name := "<init>", desc := "(Ljava/lang/String;Ljava/lang/Throwable;ZZ)V" } : Jvm.MethodName) prog_34_method_5_code (5 : Nat) (Option.none : Option Jvm.ClassFile.FieldType)) ∈ lw_all := lw_g (lw_at lw_m2 26 rfl) rfl
theorem q390 : (Jvm.Cond.fieldLink "java/lang/Throwable" (198 : Nat) "java/lang/Throwable" "backtrace" "Ljava/lang/Object;") ∈ lw_all := lw_g (lw_at lw_m2 29 rfl) rfl
theorem q391 : (Jvm.Cond.fieldLink "java/lang/Throwable" (31 : Nat) "java/lang/Throwable" "detailMessage" "Ljava/lang/String;") ∈ lw_all := lw_g (lw_at lw_m2 30 rfl) rfl
theorem q392 : (Jvm.Cond.fieldLink "java/lang/Throwable" (7 : Nat) "java/lang/Throwable" "cause" "Ljava/lang/Throwable;") ∈ lw_all := lw_g (lw_at lw_m2 31 rfl) rfl
theorem q393 : (Jvm.Cond.fieldLink "java/lang/Throwable" (17 : Nat) "java/lang/Throwable" "stackTrace" "[Ljava/lang/StackTraceElement;") ∈ lw_all := lw_g (lw_at lw_m2 32 rfl) rfl
theorem q394 : (Jvm.Cond.fieldLink "java/lang/Throwable" (24 : Nat) "java/lang/Throwable" "suppressedExceptions" "Ljava/util/List;") ∈ lw_all := lw_g (lw_at lw_m2 33 rfl) rfl
theorem q397 : (Jvm.Cond.soleField "java/lang/Throwable" "backtrace") ∈ lw_all := lw_g (lw_at lw_m2 36 rfl) rfl
theorem q398 : (Jvm.Cond.soleField "java/lang/Throwable" "detailMessage") ∈ lw_all := lw_g (lw_at lw_m2 37 rfl) rfl
theorem q399 : (Jvm.Cond.soleField "java/lang/Throwable" "cause") ∈ lw_all := lw_g (lw_at lw_m2 38 rfl) rfl
theorem q400 : (Jvm.Cond.soleField "java/lang/Throwable" "stackTrace") ∈ lw_all := lw_g (lw_at lw_m2 39 rfl) rfl
theorem q402 : (Jvm.Cond.soleField "java/lang/Throwable" "depth") ∈ lw_all := lw_g (lw_at lw_m2 41 rfl) rfl
theorem q403 : (Jvm.Cond.soleField "java/lang/Throwable" "suppressedExceptions") ∈ lw_all := lw_g (lw_at lw_m2 42 rfl) rfl
theorem q960 : (Jvm.Cond.instanceMethod ({ cls := "java/lang/Throwable", name := "<init>", desc := "(Ljava/lang/String;)V" } : Jvm.MethodName)) ∈ lw_all := lw_g (lw_at lw_m4 119 rfl) rfl
theorem q961 : (Jvm.Cond.code ({ cls := "java/lang/Throwable", name := "<init>", desc := "(Ljava/lang/String;)V" } : Jvm.MethodName) prog_34_method_2_code (2 : Nat) (Option.none : Option Jvm.ClassFile.FieldType)) ∈ lw_all := lw_g (lw_at lw_m4 120 rfl) rfl
theorem q2088 : (Jvm.Cond.sameMethod "java/lang/Throwable" "java/lang/Throwable" "fillInStackTrace" "(I)Ljava/lang/Throwable;") ∈ lw_all := lw_g (lw_at lw_m9 47 rfl) rfl
theorem q2111 : (Jvm.Cond.castable "java/lang/Throwable" "java/lang/Object") ∈ lw_tbl := lw_at lw_m9 70 rfl
theorem in_J0 : ∀ w ∈ wsJ00, w ∈ lw_all := lw_in wsJ00 [343, 345, 347, 349, 351] (by decide +kernel) (by decide +kernel)

/-! java/lang/Exception -/
set_option maxRecDepth 100000
def RJ1 : String := "java/lang/Exception"
abbrev cJ1_init : ByteArray := prog_23_method_5_code
def yJ1_init : MethodName := ⟨RJ1, "<init>", "(Ljava/lang/String;Ljava/lang/Throwable;ZZ)V"⟩
def dkwJ1_init_0 : List UInt8 := [42, 43, 44, 29, 21, 4, 183, 0, 16, 177]
abbrev dktJ1_init_0 : List UInt8 := dkwJ1_init_0 ++ []
theorem dksJ1_init_0 : cJ1_init.data.toList.drop 0 = dktJ1_init_0 := by decide +kernel
theorem dJ1_init_0 : decode cJ1_init 0 = .ok (.aload_n 0, 1) := dk_42 (dk_at dksJ1_init_0 0 rfl rfl)
theorem dJ1_init_1 : decode cJ1_init 1 = .ok (.aload_n 1, 1) := dk_43 (dk_at dksJ1_init_0 1 rfl rfl)
theorem dJ1_init_2 : decode cJ1_init 2 = .ok (.aload_n 2, 1) := dk_44 (dk_at dksJ1_init_0 2 rfl rfl)
theorem dJ1_init_3 : decode cJ1_init 3 = .ok (.iload_n 3, 1) := dk_29 (dk_at dksJ1_init_0 3 rfl rfl)
theorem dJ1_init_4 : decode cJ1_init 4 = .ok (.iload 4, 2) := dk_21 4 (dk_at dksJ1_init_0 4 rfl rfl)
theorem dJ1_init_6 : decode cJ1_init 6 = .ok (.invokespecial 16, 3) := dk_183 0 16 (dk_at dksJ1_init_0 6 rfl rfl)
theorem dJ1_init_9 : decode cJ1_init 9 = .ok (.return_, 1) := dk_177 (dk_at dksJ1_init_0 9 rfl rfl)
abbrev cJ1_init_2 : ByteArray := prog_23_method_1_code
def yJ1_init_2 : MethodName := ⟨RJ1, "<init>", "()V"⟩
theorem dJ1_init_2_0 : decode cJ1_init_2 0 = .ok (.aload_n 0, 1) := by decide +kernel
theorem dJ1_init_2_1 : decode cJ1_init_2 1 = .ok (.invokespecial 1, 3) := by decide +kernel
theorem dJ1_init_2_4 : decode cJ1_init_2 4 = .ok (.return_, 1) := by decide +kernel
abbrev cJ1_init_3 : ByteArray := prog_23_method_2_code
def yJ1_init_3 : MethodName := ⟨RJ1, "<init>", "(Ljava/lang/String;)V"⟩
def dkwJ1_init_3_0 : List UInt8 := [42, 43, 183, 0, 7, 177]
abbrev dktJ1_init_3_0 : List UInt8 := dkwJ1_init_3_0 ++ []
theorem dksJ1_init_3_0 : cJ1_init_3.data.toList.drop 0 = dktJ1_init_3_0 := by decide +kernel
theorem dJ1_init_3_0 : decode cJ1_init_3 0 = .ok (.aload_n 0, 1) := dk_42 (dk_at dksJ1_init_3_0 0 rfl rfl)
theorem dJ1_init_3_1 : decode cJ1_init_3 1 = .ok (.aload_n 1, 1) := dk_43 (dk_at dksJ1_init_3_0 1 rfl rfl)
theorem dJ1_init_3_2 : decode cJ1_init_3 2 = .ok (.invokespecial 7, 3) := dk_183 0 7 (dk_at dksJ1_init_3_0 2 rfl rfl)
theorem dJ1_init_3_5 : decode cJ1_init_3 5 = .ok (.return_, 1) := dk_177 (dk_at dksJ1_init_3_0 5 rfl rfl)
theorem q128 : (Jvm.Cond.initialized "java/lang/Exception") ∈ lw_all := lw_g (lw_at lw_m1 7 rfl) rfl
theorem q336 : (Jvm.Cond.declares ({ cls := "java/lang/Exception", name := "<init>", desc := "()V" } : Jvm.MethodName)) ∈ lw_tbl := lw_at lw_m1 215 rfl
theorem q337 : (Jvm.Cond.declares ({ cls := "java/lang/Exception", name := "<init>", desc := "(Ljava/lang/String;)V" } : Jvm.MethodName)) ∈ lw_tbl := lw_at lw_m1 216 rfl
theorem q383 : (Jvm.Cond.instanceMethod ({ cls := "java/lang/Exception", name := "<init>", desc := "(Ljava/lang/String;Ljava/lang/Throwable;ZZ)V" } : Jvm.MethodName)) ∈ lw_all := lw_g (lw_at lw_m2 22 rfl) rfl
theorem q384 : (Jvm.Cond.code ({ cls := "java/lang/Exception", name := "<init>", desc := "(Ljava/lang/String;Ljava/lang/Throwable;ZZ)V" } : Jvm.MethodName) prog_23_method_5_code (5 : Nat) (Option.none : Option Jvm.ClassFile.FieldType)) ∈ lw_all := lw_g (lw_at lw_m2 23 rfl) rfl
theorem q385 : (Jvm.Cond.methodLink "java/lang/Exception" (16 : Nat) ({ cls := "java/lang/Throwable", name := "<init>", desc := "(Ljava/lang/String;Ljava/lang/Throwable;ZZ)V" } : Jvm.MethodName)) ∈ lw_all := lw_g (lw_at lw_m2 24 rfl) rfl
theorem q778 : (Jvm.Cond.instanceMethod ({ cls := "java/lang/Exception", name := "<init>", desc := "()V" } : Jvm.MethodName)) ∈ lw_all := lw_g (lw_at lw_m3 177 rfl) rfl
theorem q779 : (Jvm.Cond.code ({ cls := "java/lang/Exception", name := "<init>", desc := "()V" } : Jvm.MethodName) prog_23_method_1_code (1 : Nat) (Option.none : Option Jvm.ClassFile.FieldType)) ∈ lw_all := lw_g (lw_at lw_m3 178 rfl) rfl
theorem q780 : (Jvm.Cond.methodLink "java/lang/Exception" (1 : Nat) ({ cls := "java/lang/Throwable", name := "<init>", desc := "()V" } : Jvm.MethodName)) ∈ lw_all := lw_g (lw_at lw_m3 179 rfl) rfl
theorem q957 : (Jvm.Cond.instanceMethod ({ cls := "java/lang/Exception", name := "<init>", desc := "(Ljava/lang/String;)V" } : Jvm.MethodName)) ∈ lw_all := lw_g (lw_at lw_m4 116 rfl) rfl
theorem q958 : (Jvm.Cond.code ({ cls := "java/lang/Exception", name := "<init>", desc := "(Ljava/lang/String;)V" } : Jvm.MethodName) prog_23_method_2_code (2 : Nat) (Option.none : Option Jvm.ClassFile.FieldType)) ∈ lw_all := lw_g (lw_at lw_m4 117 rfl) rfl
theorem q959 : (Jvm.Cond.methodLink "java/lang/Exception" (7 : Nat) ({ cls := "java/lang/Throwable", name := "<init>", desc := "(Ljava/lang/String;)V" } : Jvm.MethodName)) ∈ lw_all := lw_g (lw_at lw_m4 118 rfl) rfl

/-! java/lang/ArrayIndexOutOfBoundsException -/
set_option maxRecDepth 100000
def RJ10 : String := "java/lang/ArrayIndexOutOfBoundsException"
def TJ10 : u_T := fun k => match k with
  | 0 => ("java/lang/Throwable", "backtrace", "Ljava/lang/Object;", false)
  | 1 => ("java/lang/Throwable", "detailMessage", "Ljava/lang/String;", false)
  | 2 => ("java/lang/Throwable", "cause", "Ljava/lang/Throwable;", false)
  | 3 => ("java/lang/Throwable", "stackTrace", "[Ljava/lang/StackTraceElement;", false)
  | 4 => ("java/lang/Throwable", "depth", "I", false)
  | _ => ("java/lang/Throwable", "suppressedExceptions", "Ljava/util/List;", false)
def tyJ10 : Nat → FieldType := fun k => match k with
  | 0 => .object "java/lang/Object"
  | 1 => .object "java/lang/String"
  | 2 => .object "java/lang/Throwable"
  | 3 => .array (.object "java/lang/StackTraceElement")
  | 4 => .int
  | _ => .object "java/util/List"
abbrev wsJ100 : List Cond := u_ws RJ10 TJ10 6
theorem nmJ10 : ∀ a, a < 6 → ∀ b, b < 6 → a ≠ b → (TJ10 a).2.1 ≠ (TJ10 b).2.1 := by decide +kernel
theorem tyJ10_ok : ∀ k, k < 6 → parseFieldDescriptor (TJ10 k).2.2.1 = some (tyJ10 k) := by decide +kernel
abbrev cJ10_init : ByteArray := prog_20_method_2_code
def yJ10_init : MethodName := ⟨RJ10, "<init>", "(Ljava/lang/String;)V"⟩
def dkwJ10_init_0 : List UInt8 := [42, 43, 183, 0, 7, 177]
abbrev dktJ10_init_0 : List UInt8 := dkwJ10_init_0 ++ []
theorem dksJ10_init_0 : cJ10_init.data.toList.drop 0 = dktJ10_init_0 := by decide +kernel
theorem dJ10_init_0 : decode cJ10_init 0 = .ok (.aload_n 0, 1) := dk_42 (dk_at dksJ10_init_0 0 rfl rfl)
theorem dJ10_init_1 : decode cJ10_init 1 = .ok (.aload_n 1, 1) := dk_43 (dk_at dksJ10_init_0 1 rfl rfl)
theorem dJ10_init_2 : decode cJ10_init 2 = .ok (.invokespecial 7, 3) := dk_183 0 7 (dk_at dksJ10_init_0 2 rfl rfl)
theorem dJ10_init_5 : decode cJ10_init 5 = .ok (.return_, 1) := dk_177 (dk_at dksJ10_init_0 5 rfl rfl)
theorem q149 : (Jvm.Cond.initialized "java/lang/ArrayIndexOutOfBoundsException") ∈ lw_all := lw_g (lw_at lw_m1 28 rfl) rfl
theorem q364 : (Jvm.Cond.selects "java/lang/ArrayIndexOutOfBoundsException" ({ cls := "java/lang/Throwable", name := "fillInStackTrace", desc := "()Ljava/lang/Throwable;" } : Jvm.MethodName) ({ cls := "java/lang/Throwable", name := "fillInStackTrace", desc := "()Ljava/lang/Throwable;" } : Jvm.MethodName)) ∈ lw_all := lw_g (lw_at lw_m2 3 rfl) rfl
theorem q947 : (Jvm.Cond.instantiable "java/lang/ArrayIndexOutOfBoundsException" (6 : Nat)) ∈ lw_all := lw_g (lw_at lw_m4 106 rfl) rfl
theorem q948 : (Jvm.Cond.instanceMethod ({ cls := "java/lang/ArrayIndexOutOfBoundsException", name := "<init>", desc := "(Ljava/lang/String;)V" } : Jvm.MethodName)) ∈ lw_all := lw_g (lw_at lw_m4 107 rfl) rfl
theorem q949 : (Jvm.Cond.code ({ cls := "java/lang/ArrayIndexOutOfBoundsException", name := "<init>", desc := "(Ljava/lang/String;)V" } : Jvm.MethodName) prog_20_method_2_code (2 : Nat) (Option.none : Option Jvm.ClassFile.FieldType)) ∈ lw_all := lw_g (lw_at lw_m4 108 rfl) rfl
theorem q950 : (Jvm.Cond.methodLink "java/lang/ArrayIndexOutOfBoundsException" (7 : Nat) ({ cls := "java/lang/IndexOutOfBoundsException", name := "<init>", desc := "(Ljava/lang/String;)V" } : Jvm.MethodName)) ∈ lw_all := lw_g (lw_at lw_m4 109 rfl) rfl
theorem q962 : (Jvm.Cond.lays "java/lang/ArrayIndexOutOfBoundsException" "java/lang/Throwable" "backtrace" "Ljava/lang/Object;") ∈ lw_all := lw_g (lw_at lw_m4 121 rfl) rfl
theorem q963 : (Jvm.Cond.lays "java/lang/ArrayIndexOutOfBoundsException" "java/lang/Throwable" "detailMessage" "Ljava/lang/String;") ∈ lw_all := lw_g (lw_at lw_m4 122 rfl) rfl
theorem q964 : (Jvm.Cond.lays "java/lang/ArrayIndexOutOfBoundsException" "java/lang/Throwable" "cause" "Ljava/lang/Throwable;") ∈ lw_all := lw_g (lw_at lw_m4 123 rfl) rfl
theorem q965 : (Jvm.Cond.lays "java/lang/ArrayIndexOutOfBoundsException" "java/lang/Throwable" "stackTrace" "[Ljava/lang/StackTraceElement;") ∈ lw_all := lw_g (lw_at lw_m4 124 rfl) rfl
theorem q966 : (Jvm.Cond.lays "java/lang/ArrayIndexOutOfBoundsException" "java/lang/Throwable" "depth" "I") ∈ lw_all := lw_g (lw_at lw_m4 125 rfl) rfl
theorem q967 : (Jvm.Cond.lays "java/lang/ArrayIndexOutOfBoundsException" "java/lang/Throwable" "suppressedExceptions" "Ljava/util/List;") ∈ lw_all := lw_g (lw_at lw_m4 126 rfl) rfl
theorem q968 : (Jvm.Cond.superclass "java/lang/ArrayIndexOutOfBoundsException" "java/lang/IndexOutOfBoundsException") ∈ lw_all := lw_g (lw_at lw_m4 127 rfl) rfl
theorem q969 : (Jvm.Cond.castable "java/lang/ArrayIndexOutOfBoundsException" "java/lang/ArrayIndexOutOfBoundsException") ∈ lw_tbl := lw_at lw_m4 128 rfl
theorem q972 : (Jvm.Cond.selects "java/lang/ArrayIndexOutOfBoundsException" ({ cls := "java/lang/Throwable", name := "fillInStackTrace", desc := "(I)Ljava/lang/Throwable;" } : Jvm.MethodName) ({ cls := "java/lang/Throwable", name := "fillInStackTrace", desc := "(I)Ljava/lang/Throwable;" } : Jvm.MethodName)) ∈ lw_all := lw_g (lw_at lw_m4 131 rfl) rfl
theorem q2089 : (Jvm.Cond.castable "java/lang/ArrayIndexOutOfBoundsException" "java/lang/IndexOutOfBoundsException") ∈ lw_tbl := lw_at lw_m9 48 rfl
theorem q2107 : (Jvm.Cond.castable "java/lang/ArrayIndexOutOfBoundsException" "java/lang/Object") ∈ lw_tbl := lw_at lw_m9 66 rfl
theorem in_J10 : ∀ w ∈ wsJ100, w ∈ lw_all := lw_in wsJ100 [962, 963, 964, 965, 966, 967] (by decide +kernel) (by decide +kernel)

/-! java/util/NoSuchElementException -/
set_option maxRecDepth 100000
def RJ11 : String := "java/util/NoSuchElementException"
def TJ11 : u_T := fun k => match k with
  | 0 => ("java/lang/Throwable", "cause", "Ljava/lang/Throwable;", false)
  | 1 => ("java/lang/Throwable", "stackTrace", "[Ljava/lang/StackTraceElement;", false)
  | 2 => ("java/lang/Throwable", "suppressedExceptions", "Ljava/util/List;", false)
  | 3 => ("java/lang/Throwable", "detailMessage", "Ljava/lang/String;", false)
  | 4 => ("java/lang/Throwable", "backtrace", "Ljava/lang/Object;", false)
  | _ => ("java/lang/Throwable", "depth", "I", false)
def tyJ11 : Nat → FieldType := fun k => match k with
  | 0 => .object "java/lang/Throwable"
  | 1 => .array (.object "java/lang/StackTraceElement")
  | 2 => .object "java/util/List"
  | 3 => .object "java/lang/String"
  | 4 => .object "java/lang/Object"
  | _ => .int
abbrev wsJ110 : List Cond := u_ws RJ11 TJ11 6
theorem nmJ11 : ∀ a, a < 6 → ∀ b, b < 6 → a ≠ b → (TJ11 a).2.1 ≠ (TJ11 b).2.1 := by decide +kernel
theorem tyJ11_ok : ∀ k, k < 6 → parseFieldDescriptor (TJ11 k).2.2.1 = some (tyJ11 k) := by decide +kernel
abbrev cJ11_init : ByteArray := prog_38_method_1_code
def yJ11_init : MethodName := ⟨RJ11, "<init>", "()V"⟩
theorem dJ11_init_0 : decode cJ11_init 0 = .ok (.aload_n 0, 1) := by decide +kernel
theorem dJ11_init_1 : decode cJ11_init 1 = .ok (.invokespecial 1, 3) := by decide +kernel
theorem dJ11_init_4 : decode cJ11_init 4 = .ok (.return_, 1) := by decide +kernel
theorem q150 : (Jvm.Cond.initialized "java/util/NoSuchElementException") ∈ lw_all := lw_g (lw_at lw_m1 29 rfl) rfl
theorem q369 : (Jvm.Cond.selects "java/util/NoSuchElementException" ({ cls := "java/lang/Throwable", name := "fillInStackTrace", desc := "()Ljava/lang/Throwable;" } : Jvm.MethodName) ({ cls := "java/lang/Throwable", name := "fillInStackTrace", desc := "()Ljava/lang/Throwable;" } : Jvm.MethodName)) ∈ lw_all := lw_g (lw_at lw_m2 8 rfl) rfl
theorem q1010 : (Jvm.Cond.instantiable "java/util/NoSuchElementException" (6 : Nat)) ∈ lw_all := lw_g (lw_at lw_m4 169 rfl) rfl
theorem q1011 : (Jvm.Cond.castable "java/util/NoSuchElementException" "java/util/NoSuchElementException") ∈ lw_tbl := lw_at lw_m4 170 rfl
theorem q1012 : (Jvm.Cond.selects "java/util/NoSuchElementException" ({ cls := "java/lang/Throwable", name := "fillInStackTrace", desc := "(I)Ljava/lang/Throwable;" } : Jvm.MethodName) ({ cls := "java/lang/Throwable", name := "fillInStackTrace", desc := "(I)Ljava/lang/Throwable;" } : Jvm.MethodName)) ∈ lw_all := lw_g (lw_at lw_m4 171 rfl) rfl
theorem q1013 : (Jvm.Cond.lays "java/util/NoSuchElementException" "java/lang/Throwable" "cause" "Ljava/lang/Throwable;") ∈ lw_all := lw_g (lw_at lw_m4 172 rfl) rfl
theorem q1014 : (Jvm.Cond.lays "java/util/NoSuchElementException" "java/lang/Throwable" "stackTrace" "[Ljava/lang/StackTraceElement;") ∈ lw_all := lw_g (lw_at lw_m4 173 rfl) rfl
theorem q1015 : (Jvm.Cond.lays "java/util/NoSuchElementException" "java/lang/Throwable" "suppressedExceptions" "Ljava/util/List;") ∈ lw_all := lw_g (lw_at lw_m4 174 rfl) rfl
theorem q1016 : (Jvm.Cond.lays "java/util/NoSuchElementException" "java/lang/Throwable" "detailMessage" "Ljava/lang/String;") ∈ lw_all := lw_g (lw_at lw_m4 175 rfl) rfl
theorem q1017 : (Jvm.Cond.lays "java/util/NoSuchElementException" "java/lang/Throwable" "backtrace" "Ljava/lang/Object;") ∈ lw_all := lw_g (lw_at lw_m4 176 rfl) rfl
theorem q1019 : (Jvm.Cond.instanceMethod ({ cls := "java/util/NoSuchElementException", name := "<init>", desc := "()V" } : Jvm.MethodName)) ∈ lw_all := lw_g (lw_at lw_m4 178 rfl) rfl
theorem q1020 : (Jvm.Cond.code ({ cls := "java/util/NoSuchElementException", name := "<init>", desc := "()V" } : Jvm.MethodName) prog_38_method_1_code (1 : Nat) (Option.none : Option Jvm.ClassFile.FieldType)) ∈ lw_all := lw_g (lw_at lw_m4 179 rfl) rfl
theorem q1021 : (Jvm.Cond.methodLink "java/util/NoSuchElementException" (1 : Nat) ({ cls := "java/lang/RuntimeException", name := "<init>", desc := "()V" } : Jvm.MethodName)) ∈ lw_all := lw_g (lw_at lw_m4 180 rfl) rfl
theorem q1022 : (Jvm.Cond.lays "java/util/NoSuchElementException" "java/lang/Throwable" "depth" "I") ∈ lw_all := lw_g (lw_at lw_m4 181 rfl) rfl
theorem q1023 : (Jvm.Cond.superclass "java/util/NoSuchElementException" "java/lang/RuntimeException") ∈ lw_all := lw_g (lw_at lw_m4 182 rfl) rfl
theorem q2109 : (Jvm.Cond.castable "java/util/NoSuchElementException" "java/lang/Object") ∈ lw_tbl := lw_at lw_m9 68 rfl
theorem in_J11 : ∀ w ∈ wsJ110, w ∈ lw_all := lw_in wsJ110 [1013, 1014, 1015, 1016, 1017, 1022] (by decide +kernel) (by decide +kernel)

/-! java/lang/Math -/
set_option maxRecDepth 100000
def RJ12 : String := "java/lang/Math"
abbrev cJ12_min : ByteArray := prog_28_method_69_code
def yJ12_min : MethodName := ⟨RJ12, "min", "(II)I"⟩
def dkwJ12_min_0 : List UInt8 := [26, 27, 163, 0, 7, 26, 167, 0, 4, 27, 172]
abbrev dktJ12_min_0 : List UInt8 := dkwJ12_min_0 ++ []
theorem dksJ12_min_0 : cJ12_min.data.toList.drop 0 = dktJ12_min_0 := by decide +kernel
theorem dJ12_min_0 : decode cJ12_min 0 = .ok (.iload_n 0, 1) := dk_26 (dk_at dksJ12_min_0 0 rfl rfl)
theorem dJ12_min_1 : decode cJ12_min 1 = .ok (.iload_n 1, 1) := dk_27 (dk_at dksJ12_min_0 1 rfl rfl)
theorem dJ12_min_2 : decode cJ12_min 2 = .ok (.if_icmp .gt 7, 3) := dk_163 0 7 (dk_at dksJ12_min_0 2 rfl rfl)
theorem dJ12_min_5 : decode cJ12_min 5 = .ok (.iload_n 0, 1) := dk_26 (dk_at dksJ12_min_0 5 rfl rfl)
theorem dJ12_min_6 : decode cJ12_min 6 = .ok (.goto 4, 3) := dk_167 0 4 (dk_at dksJ12_min_0 6 rfl rfl)
theorem dJ12_min_9 : decode cJ12_min 9 = .ok (.iload_n 1, 1) := dk_27 (dk_at dksJ12_min_0 9 rfl rfl)
theorem dJ12_min_10 : decode cJ12_min 10 = .ok (.ireturn, 1) := dk_172 (dk_at dksJ12_min_0 10 rfl rfl)
abbrev cJ12_abs : ByteArray := prog_28_method_59_code
def yJ12_abs : MethodName := ⟨RJ12, "abs", "(I)I"⟩
def dkwJ12_abs_0 : List UInt8 := [26, 156, 0, 8, 26, 116, 167, 0, 4, 26, 172]
abbrev dktJ12_abs_0 : List UInt8 := dkwJ12_abs_0 ++ []
theorem dksJ12_abs_0 : cJ12_abs.data.toList.drop 0 = dktJ12_abs_0 := by decide +kernel
theorem dJ12_abs_0 : decode cJ12_abs 0 = .ok (.iload_n 0, 1) := dk_26 (dk_at dksJ12_abs_0 0 rfl rfl)
theorem dJ12_abs_1 : decode cJ12_abs 1 = .ok (.ifCond .ge 8, 3) := dk_156 0 8 (dk_at dksJ12_abs_0 1 rfl rfl)
theorem dJ12_abs_4 : decode cJ12_abs 4 = .ok (.iload_n 0, 1) := dk_26 (dk_at dksJ12_abs_0 4 rfl rfl)
theorem dJ12_abs_5 : decode cJ12_abs 5 = .ok (.ineg, 1) := dk_116 (dk_at dksJ12_abs_0 5 rfl rfl)
theorem dJ12_abs_6 : decode cJ12_abs 6 = .ok (.goto 4, 3) := dk_167 0 4 (dk_at dksJ12_abs_0 6 rfl rfl)
theorem dJ12_abs_9 : decode cJ12_abs 9 = .ok (.iload_n 0, 1) := dk_26 (dk_at dksJ12_abs_0 9 rfl rfl)
theorem dJ12_abs_10 : decode cJ12_abs 10 = .ok (.ireturn, 1) := dk_172 (dk_at dksJ12_abs_0 10 rfl rfl)
abbrev cJ12_max : ByteArray := prog_28_method_65_code
def yJ12_max : MethodName := ⟨RJ12, "max", "(II)I"⟩
def dkwJ12_max_0 : List UInt8 := [26, 27, 161, 0, 7, 26, 167, 0, 4, 27, 172]
abbrev dktJ12_max_0 : List UInt8 := dkwJ12_max_0 ++ []
theorem dksJ12_max_0 : cJ12_max.data.toList.drop 0 = dktJ12_max_0 := by decide +kernel
theorem dJ12_max_0 : decode cJ12_max 0 = .ok (.iload_n 0, 1) := dk_26 (dk_at dksJ12_max_0 0 rfl rfl)
theorem dJ12_max_1 : decode cJ12_max 1 = .ok (.iload_n 1, 1) := dk_27 (dk_at dksJ12_max_0 1 rfl rfl)
theorem dJ12_max_2 : decode cJ12_max 2 = .ok (.if_icmp .lt 7, 3) := dk_161 0 7 (dk_at dksJ12_max_0 2 rfl rfl)
theorem dJ12_max_5 : decode cJ12_max 5 = .ok (.iload_n 0, 1) := dk_26 (dk_at dksJ12_max_0 5 rfl rfl)
theorem dJ12_max_6 : decode cJ12_max 6 = .ok (.goto 4, 3) := dk_167 0 4 (dk_at dksJ12_max_0 6 rfl rfl)
theorem dJ12_max_9 : decode cJ12_max 9 = .ok (.iload_n 1, 1) := dk_27 (dk_at dksJ12_max_0 9 rfl rfl)
theorem dJ12_max_10 : decode cJ12_max 10 = .ok (.ireturn, 1) := dk_172 (dk_at dksJ12_max_0 10 rfl rfl)
theorem q151 : (Jvm.Cond.initialized "java/lang/Math") ∈ lw_all := lw_g (lw_at lw_m1 30 rfl) rfl
theorem q630 : (Jvm.Cond.static ({ cls := "java/lang/Math", name := "min", desc := "(II)I" } : Jvm.MethodName)) ∈ lw_all := lw_g (lw_at lw_m3 29 rfl) rfl
theorem q631 : (Jvm.Cond.code ({ cls := "java/lang/Math", name := "min", desc := "(II)I" } : Jvm.MethodName) prog_28_method_69_code (2 : Nat) (Option.some Jvm.ClassFile.FieldType.int)) ∈ lw_all := lw_g (lw_at lw_m3 30 rfl) rfl
theorem q1110 : (Jvm.Cond.static ({ cls := "java/lang/Math", name := "abs", desc := "(I)I" } : Jvm.MethodName)) ∈ lw_all := lw_g (lw_at lw_m5 29 rfl) rfl
theorem q1111 : (Jvm.Cond.code ({ cls := "java/lang/Math", name := "abs", desc := "(I)I" } : Jvm.MethodName) prog_28_method_59_code (1 : Nat) (Option.some Jvm.ClassFile.FieldType.int)) ∈ lw_all := lw_g (lw_at lw_m5 30 rfl) rfl
theorem q1290 : (Jvm.Cond.static ({ cls := "java/lang/Math", name := "max", desc := "(II)I" } : Jvm.MethodName)) ∈ lw_all := lw_g (lw_at lw_m5 209 rfl) rfl
theorem q1291 : (Jvm.Cond.code ({ cls := "java/lang/Math", name := "max", desc := "(II)I" } : Jvm.MethodName) prog_28_method_65_code (2 : Nat) (Option.some Jvm.ClassFile.FieldType.int)) ∈ lw_all := lw_g (lw_at lw_m5 210 rfl) rfl

/-! java/lang/IllegalStateException -/
set_option maxRecDepth 100000
def RJ13 : String := "java/lang/IllegalStateException"
def TJ13 : u_T := fun k => match k with
  | 0 => ("java/lang/Throwable", "cause", "Ljava/lang/Throwable;", false)
  | 1 => ("java/lang/Throwable", "stackTrace", "[Ljava/lang/StackTraceElement;", false)
  | 2 => ("java/lang/Throwable", "suppressedExceptions", "Ljava/util/List;", false)
  | 3 => ("java/lang/Throwable", "detailMessage", "Ljava/lang/String;", false)
  | 4 => ("java/lang/Throwable", "backtrace", "Ljava/lang/Object;", false)
  | _ => ("java/lang/Throwable", "depth", "I", false)
def tyJ13 : Nat → FieldType := fun k => match k with
  | 0 => .object "java/lang/Throwable"
  | 1 => .array (.object "java/lang/StackTraceElement")
  | 2 => .object "java/util/List"
  | 3 => .object "java/lang/String"
  | 4 => .object "java/lang/Object"
  | _ => .int
abbrev wsJ130 : List Cond := u_ws RJ13 TJ13 6
theorem nmJ13 : ∀ a, a < 6 → ∀ b, b < 6 → a ≠ b → (TJ13 a).2.1 ≠ (TJ13 b).2.1 := by decide +kernel
theorem tyJ13_ok : ∀ k, k < 6 → parseFieldDescriptor (TJ13 k).2.2.1 = some (tyJ13 k) := by decide +kernel
abbrev cJ13_init : ByteArray := prog_25_method_1_code
def yJ13_init : MethodName := ⟨RJ13, "<init>", "()V"⟩
theorem dJ13_init_0 : decode cJ13_init 0 = .ok (.aload_n 0, 1) := by decide +kernel
theorem dJ13_init_1 : decode cJ13_init 1 = .ok (.invokespecial 1, 3) := by decide +kernel
theorem dJ13_init_4 : decode cJ13_init 4 = .ok (.return_, 1) := by decide +kernel
theorem q152 : (Jvm.Cond.initialized "java/lang/IllegalStateException") ∈ lw_all := lw_g (lw_at lw_m1 31 rfl) rfl
theorem q366 : (Jvm.Cond.selects "java/lang/IllegalStateException" ({ cls := "java/lang/Throwable", name := "fillInStackTrace", desc := "()Ljava/lang/Throwable;" } : Jvm.MethodName) ({ cls := "java/lang/Throwable", name := "fillInStackTrace", desc := "()Ljava/lang/Throwable;" } : Jvm.MethodName)) ∈ lw_all := lw_g (lw_at lw_m2 5 rfl) rfl
theorem q1139 : (Jvm.Cond.instantiable "java/lang/IllegalStateException" (6 : Nat)) ∈ lw_all := lw_g (lw_at lw_m5 58 rfl) rfl
theorem q1140 : (Jvm.Cond.castable "java/lang/IllegalStateException" "java/lang/IllegalStateException") ∈ lw_tbl := lw_at lw_m5 59 rfl
theorem q1141 : (Jvm.Cond.selects "java/lang/IllegalStateException" ({ cls := "java/lang/Throwable", name := "fillInStackTrace", desc := "(I)Ljava/lang/Throwable;" } : Jvm.MethodName) ({ cls := "java/lang/Throwable", name := "fillInStackTrace", desc := "(I)Ljava/lang/Throwable;" } : Jvm.MethodName)) ∈ lw_all := lw_g (lw_at lw_m5 60 rfl) rfl
theorem q1142 : (Jvm.Cond.lays "java/lang/IllegalStateException" "java/lang/Throwable" "cause" "Ljava/lang/Throwable;") ∈ lw_all := lw_g (lw_at lw_m5 61 rfl) rfl
theorem q1143 : (Jvm.Cond.lays "java/lang/IllegalStateException" "java/lang/Throwable" "stackTrace" "[Ljava/lang/StackTraceElement;") ∈ lw_all := lw_g (lw_at lw_m5 62 rfl) rfl
theorem q1144 : (Jvm.Cond.lays "java/lang/IllegalStateException" "java/lang/Throwable" "suppressedExceptions" "Ljava/util/List;") ∈ lw_all := lw_g (lw_at lw_m5 63 rfl) rfl
theorem q1145 : (Jvm.Cond.lays "java/lang/IllegalStateException" "java/lang/Throwable" "detailMessage" "Ljava/lang/String;") ∈ lw_all := lw_g (lw_at lw_m5 64 rfl) rfl
theorem q1146 : (Jvm.Cond.lays "java/lang/IllegalStateException" "java/lang/Throwable" "backtrace" "Ljava/lang/Object;") ∈ lw_all := lw_g (lw_at lw_m5 65 rfl) rfl
theorem q1148 : (Jvm.Cond.instanceMethod ({ cls := "java/lang/IllegalStateException", name := "<init>", desc := "()V" } : Jvm.MethodName)) ∈ lw_all := lw_g (lw_at lw_m5 67 rfl) rfl
theorem q1149 : (Jvm.Cond.code ({ cls := "java/lang/IllegalStateException", name := "<init>", desc := "()V" } : Jvm.MethodName) prog_25_method_1_code (1 : Nat) (Option.none : Option Jvm.ClassFile.FieldType)) ∈ lw_all := lw_g (lw_at lw_m5 68 rfl) rfl
theorem q1150 : (Jvm.Cond.methodLink "java/lang/IllegalStateException" (1 : Nat) ({ cls := "java/lang/RuntimeException", name := "<init>", desc := "()V" } : Jvm.MethodName)) ∈ lw_all := lw_g (lw_at lw_m5 69 rfl) rfl
theorem q1151 : (Jvm.Cond.lays "java/lang/IllegalStateException" "java/lang/Throwable" "depth" "I") ∈ lw_all := lw_g (lw_at lw_m5 70 rfl) rfl
theorem q1152 : (Jvm.Cond.superclass "java/lang/IllegalStateException" "java/lang/RuntimeException") ∈ lw_all := lw_g (lw_at lw_m5 71 rfl) rfl
theorem q2110 : (Jvm.Cond.castable "java/lang/IllegalStateException" "java/lang/Object") ∈ lw_tbl := lw_at lw_m9 69 rfl
theorem in_J13 : ∀ w ∈ wsJ130, w ∈ lw_all := lw_in wsJ130 [1142, 1143, 1144, 1145, 1146, 1151] (by decide +kernel) (by decide +kernel)

/-! java/lang/Integer -/
set_option maxRecDepth 100000
def RJ14 : String := "java/lang/Integer"
abbrev cJ14_bitCount : ByteArray := prog_27_method_49_code
def yJ14_bitCount : MethodName := ⟨RJ14, "bitCount", "(I)I"⟩
def dkwJ14_bitCount_2 : List UInt8 := [26, 16, 63, 126, 172]
abbrev dktJ14_bitCount_2 : List UInt8 := dkwJ14_bitCount_2 ++ []
def dkwJ14_bitCount_1 : List UInt8 := [26, 26, 7, 124, 96, 19, 1, 11, 126, 59, 26, 26, 16, 8, 124, 96, 59, 26, 26, 16, 16, 124, 96, 59]
abbrev dktJ14_bitCount_1 : List UInt8 := dkwJ14_bitCount_1 ++ dktJ14_bitCount_2
def dkwJ14_bitCount_0 : List UInt8 := [26, 26, 4, 124, 19, 1, 9, 126, 100, 59, 26, 19, 1, 10, 126, 26, 5, 124, 19, 1, 10, 126, 96, 59]
abbrev dktJ14_bitCount_0 : List UInt8 := dkwJ14_bitCount_0 ++ dktJ14_bitCount_1
theorem dksJ14_bitCount_0 : cJ14_bitCount.data.toList.drop 0 = dktJ14_bitCount_0 := by decide +kernel
theorem dksJ14_bitCount_1 : cJ14_bitCount.data.toList.drop 24 = dktJ14_bitCount_1 := dk_seg dksJ14_bitCount_0 24 rfl rfl
theorem dksJ14_bitCount_2 : cJ14_bitCount.data.toList.drop 48 = dktJ14_bitCount_2 := dk_seg dksJ14_bitCount_1 24 rfl rfl
theorem dJ14_bitCount_0 : decode cJ14_bitCount 0 = .ok (.iload_n 0, 1) := dk_26 (dk_at dksJ14_bitCount_0 0 rfl rfl)
theorem dJ14_bitCount_1 : decode cJ14_bitCount 1 = .ok (.iload_n 0, 1) := dk_26 (dk_at dksJ14_bitCount_0 1 rfl rfl)
theorem dJ14_bitCount_2 : decode cJ14_bitCount 2 = .ok (.iconst 1, 1) := dk_4 (dk_at dksJ14_bitCount_0 2 rfl rfl)
theorem dJ14_bitCount_3 : decode cJ14_bitCount 3 = .ok (.iushr, 1) := dk_124 (dk_at dksJ14_bitCount_0 3 rfl rfl)
theorem dJ14_bitCount_4 : decode cJ14_bitCount 4 = .ok (.ldc_w 265, 3) := dk_19 1 9 (dk_at dksJ14_bitCount_0 4 rfl rfl)
theorem dJ14_bitCount_7 : decode cJ14_bitCount 7 = .ok (.iand, 1) := dk_126 (dk_at dksJ14_bitCount_0 7 rfl rfl)
theorem dJ14_bitCount_8 : decode cJ14_bitCount 8 = .ok (.isub, 1) := dk_100 (dk_at dksJ14_bitCount_0 8 rfl rfl)
theorem dJ14_bitCount_9 : decode cJ14_bitCount 9 = .ok (.istore_n 0, 1) := dk_59 (dk_at dksJ14_bitCount_0 9 rfl rfl)
theorem dJ14_bitCount_10 : decode cJ14_bitCount 10 = .ok (.iload_n 0, 1) := dk_26 (dk_at dksJ14_bitCount_0 10 rfl rfl)
theorem dJ14_bitCount_11 : decode cJ14_bitCount 11 = .ok (.ldc_w 266, 3) := dk_19 1 10 (dk_at dksJ14_bitCount_0 11 rfl rfl)
theorem dJ14_bitCount_14 : decode cJ14_bitCount 14 = .ok (.iand, 1) := dk_126 (dk_at dksJ14_bitCount_0 14 rfl rfl)
theorem dJ14_bitCount_15 : decode cJ14_bitCount 15 = .ok (.iload_n 0, 1) := dk_26 (dk_at dksJ14_bitCount_0 15 rfl rfl)
theorem dJ14_bitCount_16 : decode cJ14_bitCount 16 = .ok (.iconst 2, 1) := dk_5 (dk_at dksJ14_bitCount_0 16 rfl rfl)
theorem dJ14_bitCount_17 : decode cJ14_bitCount 17 = .ok (.iushr, 1) := dk_124 (dk_at dksJ14_bitCount_0 17 rfl rfl)
theorem dJ14_bitCount_18 : decode cJ14_bitCount 18 = .ok (.ldc_w 266, 3) := dk_19 1 10 (dk_at dksJ14_bitCount_0 18 rfl rfl)
theorem dJ14_bitCount_21 : decode cJ14_bitCount 21 = .ok (.iand, 1) := dk_126 (dk_at dksJ14_bitCount_0 21 rfl rfl)
theorem dJ14_bitCount_22 : decode cJ14_bitCount 22 = .ok (.iadd, 1) := dk_96 (dk_at dksJ14_bitCount_0 22 rfl rfl)
theorem dJ14_bitCount_23 : decode cJ14_bitCount 23 = .ok (.istore_n 0, 1) := dk_59 (dk_at dksJ14_bitCount_0 23 rfl rfl)
theorem dJ14_bitCount_24 : decode cJ14_bitCount 24 = .ok (.iload_n 0, 1) := dk_26 (dk_at dksJ14_bitCount_1 0 rfl rfl)
theorem dJ14_bitCount_25 : decode cJ14_bitCount 25 = .ok (.iload_n 0, 1) := dk_26 (dk_at dksJ14_bitCount_1 1 rfl rfl)
theorem dJ14_bitCount_26 : decode cJ14_bitCount 26 = .ok (.iconst 4, 1) := dk_7 (dk_at dksJ14_bitCount_1 2 rfl rfl)
theorem dJ14_bitCount_27 : decode cJ14_bitCount 27 = .ok (.iushr, 1) := dk_124 (dk_at dksJ14_bitCount_1 3 rfl rfl)
theorem dJ14_bitCount_28 : decode cJ14_bitCount 28 = .ok (.iadd, 1) := dk_96 (dk_at dksJ14_bitCount_1 4 rfl rfl)
theorem dJ14_bitCount_29 : decode cJ14_bitCount 29 = .ok (.ldc_w 267, 3) := dk_19 1 11 (dk_at dksJ14_bitCount_1 5 rfl rfl)
theorem dJ14_bitCount_32 : decode cJ14_bitCount 32 = .ok (.iand, 1) := dk_126 (dk_at dksJ14_bitCount_1 8 rfl rfl)
theorem dJ14_bitCount_33 : decode cJ14_bitCount 33 = .ok (.istore_n 0, 1) := dk_59 (dk_at dksJ14_bitCount_1 9 rfl rfl)
theorem dJ14_bitCount_34 : decode cJ14_bitCount 34 = .ok (.iload_n 0, 1) := dk_26 (dk_at dksJ14_bitCount_1 10 rfl rfl)
theorem dJ14_bitCount_35 : decode cJ14_bitCount 35 = .ok (.iload_n 0, 1) := dk_26 (dk_at dksJ14_bitCount_1 11 rfl rfl)
theorem dJ14_bitCount_36 : decode cJ14_bitCount 36 = .ok (.bipush 8, 2) := dk_16 8 (dk_at dksJ14_bitCount_1 12 rfl rfl)
theorem dJ14_bitCount_38 : decode cJ14_bitCount 38 = .ok (.iushr, 1) := dk_124 (dk_at dksJ14_bitCount_1 14 rfl rfl)
theorem dJ14_bitCount_39 : decode cJ14_bitCount 39 = .ok (.iadd, 1) := dk_96 (dk_at dksJ14_bitCount_1 15 rfl rfl)
theorem dJ14_bitCount_40 : decode cJ14_bitCount 40 = .ok (.istore_n 0, 1) := dk_59 (dk_at dksJ14_bitCount_1 16 rfl rfl)
theorem dJ14_bitCount_41 : decode cJ14_bitCount 41 = .ok (.iload_n 0, 1) := dk_26 (dk_at dksJ14_bitCount_1 17 rfl rfl)
theorem dJ14_bitCount_42 : decode cJ14_bitCount 42 = .ok (.iload_n 0, 1) := dk_26 (dk_at dksJ14_bitCount_1 18 rfl rfl)
theorem dJ14_bitCount_43 : decode cJ14_bitCount 43 = .ok (.bipush 16, 2) := dk_16 16 (dk_at dksJ14_bitCount_1 19 rfl rfl)
theorem dJ14_bitCount_45 : decode cJ14_bitCount 45 = .ok (.iushr, 1) := dk_124 (dk_at dksJ14_bitCount_1 21 rfl rfl)
theorem dJ14_bitCount_46 : decode cJ14_bitCount 46 = .ok (.iadd, 1) := dk_96 (dk_at dksJ14_bitCount_1 22 rfl rfl)
theorem dJ14_bitCount_47 : decode cJ14_bitCount 47 = .ok (.istore_n 0, 1) := dk_59 (dk_at dksJ14_bitCount_1 23 rfl rfl)
theorem dJ14_bitCount_48 : decode cJ14_bitCount 48 = .ok (.iload_n 0, 1) := dk_26 (dk_at dksJ14_bitCount_2 0 rfl rfl)
theorem dJ14_bitCount_49 : decode cJ14_bitCount 49 = .ok (.bipush 63, 2) := dk_16 63 (dk_at dksJ14_bitCount_2 1 rfl rfl)
theorem dJ14_bitCount_51 : decode cJ14_bitCount 51 = .ok (.iand, 1) := dk_126 (dk_at dksJ14_bitCount_2 3 rfl rfl)
theorem dJ14_bitCount_52 : decode cJ14_bitCount 52 = .ok (.ireturn, 1) := dk_172 (dk_at dksJ14_bitCount_2 4 rfl rfl)
theorem q153 : (Jvm.Cond.initialized "java/lang/Integer") ∈ lw_all := lw_g (lw_at lw_m1 32 rfl) rfl
theorem q1274 : (Jvm.Cond.static ({ cls := "java/lang/Integer", name := "bitCount", desc := "(I)I" } : Jvm.MethodName)) ∈ lw_all := lw_g (lw_at lw_m5 193 rfl) rfl
theorem q1275 : (Jvm.Cond.code ({ cls := "java/lang/Integer", name := "bitCount", desc := "(I)I" } : Jvm.MethodName) prog_27_method_49_code (1 : Nat) (Option.some Jvm.ClassFile.FieldType.int)) ∈ lw_all := lw_g (lw_at lw_m5 194 rfl) rfl
theorem q1276 : (Jvm.Cond.constant "java/lang/Integer" (265 : Nat) (1431655765 : Int32)) ∈ lw_all := lw_g (lw_at lw_m5 195 rfl) rfl
theorem q1277 : (Jvm.Cond.constant "java/lang/Integer" (266 : Nat) (858993459 : Int32)) ∈ lw_all := lw_g (lw_at lw_m5 196 rfl) rfl
theorem q1278 : (Jvm.Cond.constant "java/lang/Integer" (267 : Nat) (252645135 : Int32)) ∈ lw_all := lw_g (lw_at lw_m5 197 rfl) rfl

/-! java/lang/Object -/
set_option maxRecDepth 100000
def RJ15 : String := "java/lang/Object"
abbrev cJ15_init : ByteArray := object_method_1_code
def yJ15_init : MethodName := ⟨RJ15, "<init>", "()V"⟩
theorem dJ15_init_0 : decode cJ15_init 0 = .ok (.return_, 1) := by decide +kernel
theorem q160 : (Jvm.Cond.instanceMethod ({ cls := "java/lang/Object", name := "<init>", desc := "()V" } : Jvm.MethodName)) ∈ lw_all := lw_g (lw_at lw_m1 39 rfl) rfl
theorem q161 : (Jvm.Cond.code ({ cls := "java/lang/Object", name := "<init>", desc := "()V" } : Jvm.MethodName) object_method_1_code (1 : Nat) (Option.none : Option Jvm.ClassFile.FieldType)) ∈ lw_all := lw_g (lw_at lw_m1 40 rfl) rfl

/-! java/lang/RuntimeException -/
set_option maxRecDepth 100000
def RJ2 : String := "java/lang/RuntimeException"
abbrev cJ2_init : ByteArray := prog_29_method_5_code
def yJ2_init : MethodName := ⟨RJ2, "<init>", "(Ljava/lang/String;Ljava/lang/Throwable;ZZ)V"⟩
def dkwJ2_init_0 : List UInt8 := [42, 43, 44, 29, 21, 4, 183, 0, 16, 177]
abbrev dktJ2_init_0 : List UInt8 := dkwJ2_init_0 ++ []
theorem dksJ2_init_0 : cJ2_init.data.toList.drop 0 = dktJ2_init_0 := by decide +kernel
theorem dJ2_init_0 : decode cJ2_init 0 = .ok (.aload_n 0, 1) := dk_42 (dk_at dksJ2_init_0 0 rfl rfl)
theorem dJ2_init_1 : decode cJ2_init 1 = .ok (.aload_n 1, 1) := dk_43 (dk_at dksJ2_init_0 1 rfl rfl)
theorem dJ2_init_2 : decode cJ2_init 2 = .ok (.aload_n 2, 1) := dk_44 (dk_at dksJ2_init_0 2 rfl rfl)
theorem dJ2_init_3 : decode cJ2_init 3 = .ok (.iload_n 3, 1) := dk_29 (dk_at dksJ2_init_0 3 rfl rfl)
theorem dJ2_init_4 : decode cJ2_init 4 = .ok (.iload 4, 2) := dk_21 4 (dk_at dksJ2_init_0 4 rfl rfl)
theorem dJ2_init_6 : decode cJ2_init 6 = .ok (.invokespecial 16, 3) := dk_183 0 16 (dk_at dksJ2_init_0 6 rfl rfl)
theorem dJ2_init_9 : decode cJ2_init 9 = .ok (.return_, 1) := dk_177 (dk_at dksJ2_init_0 9 rfl rfl)
abbrev cJ2_init_2 : ByteArray := prog_29_method_1_code
def yJ2_init_2 : MethodName := ⟨RJ2, "<init>", "()V"⟩
theorem dJ2_init_2_0 : decode cJ2_init_2 0 = .ok (.aload_n 0, 1) := by decide +kernel
theorem dJ2_init_2_1 : decode cJ2_init_2 1 = .ok (.invokespecial 1, 3) := by decide +kernel
theorem dJ2_init_2_4 : decode cJ2_init_2 4 = .ok (.return_, 1) := by decide +kernel
abbrev cJ2_init_3 : ByteArray := prog_29_method_2_code
def yJ2_init_3 : MethodName := ⟨RJ2, "<init>", "(Ljava/lang/String;)V"⟩
def dkwJ2_init_3_0 : List UInt8 := [42, 43, 183, 0, 7, 177]
abbrev dktJ2_init_3_0 : List UInt8 := dkwJ2_init_3_0 ++ []
theorem dksJ2_init_3_0 : cJ2_init_3.data.toList.drop 0 = dktJ2_init_3_0 := by decide +kernel
theorem dJ2_init_3_0 : decode cJ2_init_3 0 = .ok (.aload_n 0, 1) := dk_42 (dk_at dksJ2_init_3_0 0 rfl rfl)
theorem dJ2_init_3_1 : decode cJ2_init_3 1 = .ok (.aload_n 1, 1) := dk_43 (dk_at dksJ2_init_3_0 1 rfl rfl)
theorem dJ2_init_3_2 : decode cJ2_init_3 2 = .ok (.invokespecial 7, 3) := dk_183 0 7 (dk_at dksJ2_init_3_0 2 rfl rfl)
theorem dJ2_init_3_5 : decode cJ2_init_3 5 = .ok (.return_, 1) := dk_177 (dk_at dksJ2_init_3_0 5 rfl rfl)
theorem q129 : (Jvm.Cond.initialized "java/lang/RuntimeException") ∈ lw_all := lw_g (lw_at lw_m1 8 rfl) rfl
theorem q334 : (Jvm.Cond.declares ({ cls := "java/lang/RuntimeException", name := "<init>", desc := "()V" } : Jvm.MethodName)) ∈ lw_tbl := lw_at lw_m1 213 rfl
theorem q335 : (Jvm.Cond.declares ({ cls := "java/lang/RuntimeException", name := "<init>", desc := "(Ljava/lang/String;)V" } : Jvm.MethodName)) ∈ lw_tbl := lw_at lw_m1 214 rfl
theorem q380 : (Jvm.Cond.instanceMethod ({ cls := "java/lang/RuntimeException", name := "<init>", desc := "(Ljava/lang/String;Ljava/lang/Throwable;ZZ)V" } : Jvm.MethodName)) ∈ lw_all := lw_g (lw_at lw_m2 19 rfl) rfl
theorem q381 : (Jvm.Cond.code ({ cls := "java/lang/RuntimeException", name := "<init>", desc := "(Ljava/lang/String;Ljava/lang/Throwable;ZZ)V" } : Jvm.MethodName) prog_29_method_5_code (5 : Nat) (Option.none : Option Jvm.ClassFile.FieldType)) ∈ lw_all := lw_g (lw_at lw_m2 20 rfl) rfl
theorem q382 : (Jvm.Cond.methodLink "java/lang/RuntimeException" (16 : Nat) ({ cls := "java/lang/Exception", name := "<init>", desc := "(Ljava/lang/String;Ljava/lang/Throwable;ZZ)V" } : Jvm.MethodName)) ∈ lw_all := lw_g (lw_at lw_m2 21 rfl) rfl
theorem q775 : (Jvm.Cond.instanceMethod ({ cls := "java/lang/RuntimeException", name := "<init>", desc := "()V" } : Jvm.MethodName)) ∈ lw_all := lw_g (lw_at lw_m3 174 rfl) rfl
theorem q776 : (Jvm.Cond.code ({ cls := "java/lang/RuntimeException", name := "<init>", desc := "()V" } : Jvm.MethodName) prog_29_method_1_code (1 : Nat) (Option.none : Option Jvm.ClassFile.FieldType)) ∈ lw_all := lw_g (lw_at lw_m3 175 rfl) rfl
theorem q777 : (Jvm.Cond.methodLink "java/lang/RuntimeException" (1 : Nat) ({ cls := "java/lang/Exception", name := "<init>", desc := "()V" } : Jvm.MethodName)) ∈ lw_all := lw_g (lw_at lw_m3 176 rfl) rfl
theorem q954 : (Jvm.Cond.instanceMethod ({ cls := "java/lang/RuntimeException", name := "<init>", desc := "(Ljava/lang/String;)V" } : Jvm.MethodName)) ∈ lw_all := lw_g (lw_at lw_m4 113 rfl) rfl
theorem q955 : (Jvm.Cond.code ({ cls := "java/lang/RuntimeException", name := "<init>", desc := "(Ljava/lang/String;)V" } : Jvm.MethodName) prog_29_method_2_code (2 : Nat) (Option.none : Option Jvm.ClassFile.FieldType)) ∈ lw_all := lw_g (lw_at lw_m4 114 rfl) rfl
theorem q956 : (Jvm.Cond.methodLink "java/lang/RuntimeException" (7 : Nat) ({ cls := "java/lang/Exception", name := "<init>", desc := "(Ljava/lang/String;)V" } : Jvm.MethodName)) ∈ lw_all := lw_g (lw_at lw_m4 115 rfl) rfl

/-! java/lang/String -/
set_option maxRecDepth 100000
def RJ3 : String := "java/lang/String"
def TJ3 : u_T := fun k => match k with
  | 0 => ("java/lang/String", "value", "[B", true)
  | _ => ("java/lang/String", "coder", "B", true)
def tyJ3 : Nat → FieldType := fun k => match k with
  | 0 => .array .byte
  | _ => .byte
abbrev wsJ30 : List Cond := u_ws RJ3 TJ3 2
theorem nmJ3 : ∀ a, a < 2 → ∀ b, b < 2 → a ≠ b → (TJ3 a).2.1 ≠ (TJ3 b).2.1 := by decide +kernel
theorem tyJ3_ok : ∀ k, k < 2 → parseFieldDescriptor (TJ3 k).2.2.1 = some (tyJ3 k) := by decide +kernel
abbrev cJ3_length : ByteArray := prog_30_method_54_code
def yJ3_length : MethodName := ⟨RJ3, "length", "()I"⟩
def dkwJ3_length_0 : List UInt8 := [42, 180, 0, 9, 190, 42, 182, 1, 79, 122, 172]
abbrev dktJ3_length_0 : List UInt8 := dkwJ3_length_0 ++ []
theorem dksJ3_length_0 : cJ3_length.data.toList.drop 0 = dktJ3_length_0 := by decide +kernel
theorem dJ3_length_0 : decode cJ3_length 0 = .ok (.aload_n 0, 1) := dk_42 (dk_at dksJ3_length_0 0 rfl rfl)
theorem dJ3_length_1 : decode cJ3_length 1 = .ok (.getfield 9, 3) := dk_180 0 9 (dk_at dksJ3_length_0 1 rfl rfl)
theorem dJ3_length_4 : decode cJ3_length 4 = .ok (.arraylength, 1) := dk_190 (dk_at dksJ3_length_0 4 rfl rfl)
theorem dJ3_length_5 : decode cJ3_length 5 = .ok (.aload_n 0, 1) := dk_42 (dk_at dksJ3_length_0 5 rfl rfl)
theorem dJ3_length_6 : decode cJ3_length 6 = .ok (.invokevirtual 335, 3) := dk_182 1 79 (dk_at dksJ3_length_0 6 rfl rfl)
theorem dJ3_length_9 : decode cJ3_length 9 = .ok (.ishr, 1) := dk_122 (dk_at dksJ3_length_0 9 rfl rfl)
theorem dJ3_length_10 : decode cJ3_length 10 = .ok (.ireturn, 1) := dk_172 (dk_at dksJ3_length_0 10 rfl rfl)
abbrev cJ3_coder : ByteArray := prog_30_method_152_code
def yJ3_coder : MethodName := ⟨RJ3, "coder", "()B"⟩
def dkwJ3_coder_0 : List UInt8 := [178, 0, 38, 153, 0, 10, 42, 180, 0, 15, 167, 0, 4, 4, 172]
abbrev dktJ3_coder_0 : List UInt8 := dkwJ3_coder_0 ++ []
theorem dksJ3_coder_0 : cJ3_coder.data.toList.drop 0 = dktJ3_coder_0 := by decide +kernel
theorem dJ3_coder_0 : decode cJ3_coder 0 = .ok (.getstatic 38, 3) := dk_178 0 38 (dk_at dksJ3_coder_0 0 rfl rfl)
theorem dJ3_coder_3 : decode cJ3_coder 3 = .ok (.ifCond .eq 10, 3) := dk_153 0 10 (dk_at dksJ3_coder_0 3 rfl rfl)
theorem dJ3_coder_6 : decode cJ3_coder 6 = .ok (.aload_n 0, 1) := dk_42 (dk_at dksJ3_coder_0 6 rfl rfl)
theorem dJ3_coder_7 : decode cJ3_coder 7 = .ok (.getfield 15, 3) := dk_180 0 15 (dk_at dksJ3_coder_0 7 rfl rfl)
theorem dJ3_coder_10 : decode cJ3_coder 10 = .ok (.goto 4, 3) := dk_167 0 4 (dk_at dksJ3_coder_0 10 rfl rfl)
theorem dJ3_coder_13 : decode cJ3_coder 13 = .ok (.iconst 1, 1) := dk_4 (dk_at dksJ3_coder_0 13 rfl rfl)
theorem dJ3_coder_14 : decode cJ3_coder 14 = .ok (.ireturn, 1) := dk_172 (dk_at dksJ3_coder_0 14 rfl rfl)
abbrev cJ3_charAt : ByteArray := prog_30_method_56_code
def yJ3_charAt : MethodName := ⟨RJ3, "charAt", "(I)C"⟩
def dkwJ3_charAt_1 : List UInt8 := [172]
abbrev dktJ3_charAt_1 : List UInt8 := dkwJ3_charAt_1 ++ []
def dkwJ3_charAt_0 : List UInt8 := [42, 182, 1, 236, 153, 0, 12, 42, 180, 0, 9, 27, 184, 1, 239, 172, 42, 180, 0, 9, 27, 184, 1, 242]
abbrev dktJ3_charAt_0 : List UInt8 := dkwJ3_charAt_0 ++ dktJ3_charAt_1
theorem dksJ3_charAt_0 : cJ3_charAt.data.toList.drop 0 = dktJ3_charAt_0 := by decide +kernel
theorem dksJ3_charAt_1 : cJ3_charAt.data.toList.drop 24 = dktJ3_charAt_1 := dk_seg dksJ3_charAt_0 24 rfl rfl
theorem dJ3_charAt_0 : decode cJ3_charAt 0 = .ok (.aload_n 0, 1) := dk_42 (dk_at dksJ3_charAt_0 0 rfl rfl)
theorem dJ3_charAt_1 : decode cJ3_charAt 1 = .ok (.invokevirtual 492, 3) := dk_182 1 236 (dk_at dksJ3_charAt_0 1 rfl rfl)
theorem dJ3_charAt_4 : decode cJ3_charAt 4 = .ok (.ifCond .eq 12, 3) := dk_153 0 12 (dk_at dksJ3_charAt_0 4 rfl rfl)
theorem dJ3_charAt_7 : decode cJ3_charAt 7 = .ok (.aload_n 0, 1) := dk_42 (dk_at dksJ3_charAt_0 7 rfl rfl)
theorem dJ3_charAt_8 : decode cJ3_charAt 8 = .ok (.getfield 9, 3) := dk_180 0 9 (dk_at dksJ3_charAt_0 8 rfl rfl)
theorem dJ3_charAt_11 : decode cJ3_charAt 11 = .ok (.iload_n 1, 1) := dk_27 (dk_at dksJ3_charAt_0 11 rfl rfl)
theorem dJ3_charAt_12 : decode cJ3_charAt 12 = .ok (.invokestatic 495, 3) := dk_184 1 239 (dk_at dksJ3_charAt_0 12 rfl rfl)
theorem dJ3_charAt_15 : decode cJ3_charAt 15 = .ok (.ireturn, 1) := dk_172 (dk_at dksJ3_charAt_0 15 rfl rfl)
theorem dJ3_charAt_16 : decode cJ3_charAt 16 = .ok (.aload_n 0, 1) := dk_42 (dk_at dksJ3_charAt_0 16 rfl rfl)
theorem dJ3_charAt_17 : decode cJ3_charAt 17 = .ok (.getfield 9, 3) := dk_180 0 9 (dk_at dksJ3_charAt_0 17 rfl rfl)
theorem dJ3_charAt_20 : decode cJ3_charAt 20 = .ok (.iload_n 1, 1) := dk_27 (dk_at dksJ3_charAt_0 20 rfl rfl)
theorem dJ3_charAt_21 : decode cJ3_charAt 21 = .ok (.invokestatic 498, 3) := dk_184 1 242 (dk_at dksJ3_charAt_0 21 rfl rfl)
theorem dJ3_charAt_24 : decode cJ3_charAt 24 = .ok (.ireturn, 1) := dk_172 (dk_at dksJ3_charAt_1 0 rfl rfl)
abbrev cJ3_isLatin1 : ByteArray := prog_30_method_154_code
def yJ3_isLatin1 : MethodName := ⟨RJ3, "isLatin1", "()Z"⟩
def dkwJ3_isLatin1_0 : List UInt8 := [178, 0, 38, 153, 0, 14, 42, 180, 0, 15, 154, 0, 7, 4, 167, 0, 4, 3, 172]
abbrev dktJ3_isLatin1_0 : List UInt8 := dkwJ3_isLatin1_0 ++ []
theorem dksJ3_isLatin1_0 : cJ3_isLatin1.data.toList.drop 0 = dktJ3_isLatin1_0 := by decide +kernel
theorem dJ3_isLatin1_0 : decode cJ3_isLatin1 0 = .ok (.getstatic 38, 3) := dk_178 0 38 (dk_at dksJ3_isLatin1_0 0 rfl rfl)
theorem dJ3_isLatin1_3 : decode cJ3_isLatin1 3 = .ok (.ifCond .eq 14, 3) := dk_153 0 14 (dk_at dksJ3_isLatin1_0 3 rfl rfl)
theorem dJ3_isLatin1_6 : decode cJ3_isLatin1 6 = .ok (.aload_n 0, 1) := dk_42 (dk_at dksJ3_isLatin1_0 6 rfl rfl)
theorem dJ3_isLatin1_7 : decode cJ3_isLatin1 7 = .ok (.getfield 15, 3) := dk_180 0 15 (dk_at dksJ3_isLatin1_0 7 rfl rfl)
theorem dJ3_isLatin1_10 : decode cJ3_isLatin1 10 = .ok (.ifCond .ne 7, 3) := dk_154 0 7 (dk_at dksJ3_isLatin1_0 10 rfl rfl)
theorem dJ3_isLatin1_13 : decode cJ3_isLatin1 13 = .ok (.iconst 1, 1) := dk_4 (dk_at dksJ3_isLatin1_0 13 rfl rfl)
theorem dJ3_isLatin1_14 : decode cJ3_isLatin1 14 = .ok (.goto 4, 3) := dk_167 0 4 (dk_at dksJ3_isLatin1_0 14 rfl rfl)
theorem dJ3_isLatin1_17 : decode cJ3_isLatin1 17 = .ok (.iconst 0, 1) := dk_3 (dk_at dksJ3_isLatin1_0 17 rfl rfl)
theorem dJ3_isLatin1_18 : decode cJ3_isLatin1 18 = .ok (.ireturn, 1) := dk_172 (dk_at dksJ3_isLatin1_0 18 rfl rfl)
abbrev cJ3_checkIndex : ByteArray := prog_30_method_155_code
def yJ3_checkIndex : MethodName := ⟨RJ3, "checkIndex", "(II)V"⟩
def dkwJ3_checkIndex_0 : List UInt8 := [26, 27, 178, 4, 29, 184, 4, 35, 87, 177]
abbrev dktJ3_checkIndex_0 : List UInt8 := dkwJ3_checkIndex_0 ++ []
theorem dksJ3_checkIndex_0 : cJ3_checkIndex.data.toList.drop 0 = dktJ3_checkIndex_0 := by decide +kernel
theorem dJ3_checkIndex_0 : decode cJ3_checkIndex 0 = .ok (.iload_n 0, 1) := dk_26 (dk_at dksJ3_checkIndex_0 0 rfl rfl)
theorem dJ3_checkIndex_1 : decode cJ3_checkIndex 1 = .ok (.iload_n 1, 1) := dk_27 (dk_at dksJ3_checkIndex_0 1 rfl rfl)
theorem dJ3_checkIndex_2 : decode cJ3_checkIndex 2 = .ok (.getstatic 1053, 3) := dk_178 4 29 (dk_at dksJ3_checkIndex_0 2 rfl rfl)
theorem dJ3_checkIndex_5 : decode cJ3_checkIndex 5 = .ok (.invokestatic 1059, 3) := dk_184 4 35 (dk_at dksJ3_checkIndex_0 5 rfl rfl)
theorem dJ3_checkIndex_8 : decode cJ3_checkIndex 8 = .ok (.pop, 1) := dk_87 (dk_at dksJ3_checkIndex_0 8 rfl rfl)
theorem dJ3_checkIndex_9 : decode cJ3_checkIndex 9 = .ok (.return_, 1) := dk_177 (dk_at dksJ3_checkIndex_0 9 rfl rfl)
theorem q133 : (Jvm.Cond.initialized "java/lang/String") ∈ lw_all := lw_g (lw_at lw_m1 12 rfl) rfl
theorem q676 : (Jvm.Cond.instanceMethod ({ cls := "java/lang/String", name := "length", desc := "()I" } : Jvm.MethodName)) ∈ lw_all := lw_g (lw_at lw_m3 75 rfl) rfl
theorem q677 : (Jvm.Cond.selects "java/lang/String" ({ cls := "java/lang/String", name := "length", desc := "()I" } : Jvm.MethodName) ({ cls := "java/lang/String", name := "length", desc := "()I" } : Jvm.MethodName)) ∈ lw_all := lw_g (lw_at lw_m3 76 rfl) rfl
theorem q678 : (Jvm.Cond.code ({ cls := "java/lang/String", name := "length", desc := "()I" } : Jvm.MethodName) prog_30_method_54_code (1 : Nat) (Option.some Jvm.ClassFile.FieldType.int)) ∈ lw_all := lw_g (lw_at lw_m3 77 rfl) rfl
theorem q679 : (Jvm.Cond.methodLink "java/lang/String" (335 : Nat) ({ cls := "java/lang/String", name := "coder", desc := "()B" } : Jvm.MethodName)) ∈ lw_all := lw_g (lw_at lw_m3 78 rfl) rfl
theorem q680 : (Jvm.Cond.instanceMethod ({ cls := "java/lang/String", name := "coder", desc := "()B" } : Jvm.MethodName)) ∈ lw_all := lw_g (lw_at lw_m3 79 rfl) rfl
theorem q681 : (Jvm.Cond.selects "java/lang/String" ({ cls := "java/lang/String", name := "coder", desc := "()B" } : Jvm.MethodName) ({ cls := "java/lang/String", name := "coder", desc := "()B" } : Jvm.MethodName)) ∈ lw_all := lw_g (lw_at lw_m3 80 rfl) rfl
theorem q682 : (Jvm.Cond.code ({ cls := "java/lang/String", name := "coder", desc := "()B" } : Jvm.MethodName) prog_30_method_152_code (1 : Nat) (Option.some Jvm.ClassFile.FieldType.byte)) ∈ lw_all := lw_g (lw_at lw_m3 81 rfl) rfl
theorem q683 : (Jvm.Cond.fieldLink "java/lang/String" (38 : Nat) "java/lang/String" "COMPACT_STRINGS" "Z") ∈ lw_all := lw_g (lw_at lw_m3 82 rfl) rfl
theorem q684 : (Jvm.Cond.laysStatic "java/lang/String" "COMPACT_STRINGS" "Z") ∈ lw_tbl := lw_at lw_m3 83 rfl
theorem q686 : (Jvm.Cond.instanceMethod ({ cls := "java/lang/String", name := "charAt", desc := "(I)C" } : Jvm.MethodName)) ∈ lw_all := lw_g (lw_at lw_m3 85 rfl) rfl
theorem q687 : (Jvm.Cond.selects "java/lang/String" ({ cls := "java/lang/String", name := "charAt", desc := "(I)C" } : Jvm.MethodName) ({ cls := "java/lang/String", name := "charAt", desc := "(I)C" } : Jvm.MethodName)) ∈ lw_all := lw_g (lw_at lw_m3 86 rfl) rfl
theorem q688 : (Jvm.Cond.code ({ cls := "java/lang/String", name := "charAt", desc := "(I)C" } : Jvm.MethodName) prog_30_method_56_code (2 : Nat) (Option.some Jvm.ClassFile.FieldType.char)) ∈ lw_all := lw_g (lw_at lw_m3 87 rfl) rfl
theorem q689 : (Jvm.Cond.methodLink "java/lang/String" (492 : Nat) ({ cls := "java/lang/String", name := "isLatin1", desc := "()Z" } : Jvm.MethodName)) ∈ lw_all := lw_g (lw_at lw_m3 88 rfl) rfl
theorem q690 : (Jvm.Cond.instanceMethod ({ cls := "java/lang/String", name := "isLatin1", desc := "()Z" } : Jvm.MethodName)) ∈ lw_all := lw_g (lw_at lw_m3 89 rfl) rfl
theorem q691 : (Jvm.Cond.selects "java/lang/String" ({ cls := "java/lang/String", name := "isLatin1", desc := "()Z" } : Jvm.MethodName) ({ cls := "java/lang/String", name := "isLatin1", desc := "()Z" } : Jvm.MethodName)) ∈ lw_all := lw_g (lw_at lw_m3 90 rfl) rfl
theorem q692 : (Jvm.Cond.code ({ cls := "java/lang/String", name := "isLatin1", desc := "()Z" } : Jvm.MethodName) prog_30_method_154_code (1 : Nat) (Option.some Jvm.ClassFile.FieldType.boolean)) ∈ lw_all := lw_g (lw_at lw_m3 91 rfl) rfl
theorem q693 : (Jvm.Cond.methodLink "java/lang/String" (495 : Nat) ({ cls := "java/lang/StringLatin1", name := "charAt", desc := "([BI)C" } : Jvm.MethodName)) ∈ lw_all := lw_g (lw_at lw_m3 92 rfl) rfl
theorem q697 : (Jvm.Cond.static ({ cls := "java/lang/String", name := "checkIndex", desc := "(II)V" } : Jvm.MethodName)) ∈ lw_all := lw_g (lw_at lw_m3 96 rfl) rfl
theorem q698 : (Jvm.Cond.code ({ cls := "java/lang/String", name := "checkIndex", desc := "(II)V" } : Jvm.MethodName) prog_30_method_155_code (2 : Nat) (Option.none : Option Jvm.ClassFile.FieldType)) ∈ lw_all := lw_g (lw_at lw_m3 97 rfl) rfl
theorem q699 : (Jvm.Cond.fieldLink "java/lang/String" (1053 : Nat) "jdk/internal/util/Preconditions" "SIOOBE_FORMATTER" "Ljava/util/function/BiFunction;") ∈ lw_all := lw_g (lw_at lw_m3 98 rfl) rfl
theorem q701 : (Jvm.Cond.methodLink "java/lang/String" (1059 : Nat) ({ cls := "jdk/internal/util/Preconditions", name := "checkIndex", desc := "(IILjava/util/function/BiFunction;)I" } : Jvm.MethodName)) ∈ lw_all := lw_g (lw_at lw_m3 100 rfl) rfl
theorem q704 : (Jvm.Cond.methodLink "java/lang/String" (498 : Nat) ({ cls := "java/lang/StringUTF16", name := "charAt", desc := "([BI)C" } : Jvm.MethodName)) ∈ lw_all := lw_g (lw_at lw_m3 103 rfl) rfl
theorem q973 : (Jvm.Cond.instantiable "java/lang/String" (4 : Nat)) ∈ lw_all := lw_g (lw_at lw_m4 132 rfl) rfl
theorem q974 : (Jvm.Cond.laysFinal "java/lang/String" "java/lang/String" "value" "[B") ∈ lw_all := lw_g (lw_at lw_m4 133 rfl) rfl
theorem q975 : (Jvm.Cond.soleField "java/lang/String" "value") ∈ lw_all := lw_g (lw_at lw_m4 134 rfl) rfl
theorem q976 : (Jvm.Cond.laysFinal "java/lang/String" "java/lang/String" "coder" "B") ∈ lw_all := lw_g (lw_at lw_m4 135 rfl) rfl
theorem q977 : (Jvm.Cond.soleField "java/lang/String" "coder") ∈ lw_all := lw_g (lw_at lw_m4 136 rfl) rfl
theorem q2112 : (Jvm.Cond.castable "java/lang/String" "java/lang/Object") ∈ lw_tbl := lw_at lw_m9 71 rfl
theorem q2116 : (Jvm.Cond.fieldLink "java/lang/String" (9 : Nat) "java/lang/String" "value" "[B") ∈ lw_all := lw_g (lw_at lw_m9 75 rfl) rfl
theorem q2117 : (Jvm.Cond.fieldLink "java/lang/String" (15 : Nat) "java/lang/String" "coder" "B") ∈ lw_all := lw_g (lw_at lw_m9 76 rfl) rfl
theorem in_J3 : ∀ w ∈ wsJ30, w ∈ lw_all := lw_in wsJ30 [974, 976] (by decide +kernel) (by decide +kernel)

/-! java/lang/StringLatin1 -/
set_option maxRecDepth 100000
def RJ4 : String := "java/lang/StringLatin1"
abbrev cJ4_charAt : ByteArray := prog_31_method_2_code
def yJ4_charAt : MethodName := ⟨RJ4, "charAt", "([BI)C"⟩
def dkwJ4_charAt_0 : List UInt8 := [27, 42, 190, 184, 0, 9, 42, 27, 51, 17, 0, 255, 126, 146, 172]
abbrev dktJ4_charAt_0 : List UInt8 := dkwJ4_charAt_0 ++ []
theorem dksJ4_charAt_0 : cJ4_charAt.data.toList.drop 0 = dktJ4_charAt_0 := by decide +kernel
theorem dJ4_charAt_0 : decode cJ4_charAt 0 = .ok (.iload_n 1, 1) := dk_27 (dk_at dksJ4_charAt_0 0 rfl rfl)
theorem dJ4_charAt_1 : decode cJ4_charAt 1 = .ok (.aload_n 0, 1) := dk_42 (dk_at dksJ4_charAt_0 1 rfl rfl)
theorem dJ4_charAt_2 : decode cJ4_charAt 2 = .ok (.arraylength, 1) := dk_190 (dk_at dksJ4_charAt_0 2 rfl rfl)
theorem dJ4_charAt_3 : decode cJ4_charAt 3 = .ok (.invokestatic 9, 3) := dk_184 0 9 (dk_at dksJ4_charAt_0 3 rfl rfl)
theorem dJ4_charAt_6 : decode cJ4_charAt 6 = .ok (.aload_n 0, 1) := dk_42 (dk_at dksJ4_charAt_0 6 rfl rfl)
theorem dJ4_charAt_7 : decode cJ4_charAt 7 = .ok (.iload_n 1, 1) := dk_27 (dk_at dksJ4_charAt_0 7 rfl rfl)
theorem dJ4_charAt_8 : decode cJ4_charAt 8 = .ok (.baload, 1) := dk_51 (dk_at dksJ4_charAt_0 8 rfl rfl)
theorem dJ4_charAt_9 : decode cJ4_charAt 9 = .ok (.sipush 255, 3) := dk_17 0 255 (dk_at dksJ4_charAt_0 9 rfl rfl)
theorem dJ4_charAt_12 : decode cJ4_charAt 12 = .ok (.iand, 1) := dk_126 (dk_at dksJ4_charAt_0 12 rfl rfl)
theorem dJ4_charAt_13 : decode cJ4_charAt 13 = .ok (.i2c, 1) := dk_146 (dk_at dksJ4_charAt_0 13 rfl rfl)
theorem dJ4_charAt_14 : decode cJ4_charAt 14 = .ok (.ireturn, 1) := dk_172 (dk_at dksJ4_charAt_0 14 rfl rfl)
theorem q134 : (Jvm.Cond.initialized "java/lang/StringLatin1") ∈ lw_all := lw_g (lw_at lw_m1 13 rfl) rfl
theorem q694 : (Jvm.Cond.static ({ cls := "java/lang/StringLatin1", name := "charAt", desc := "([BI)C" } : Jvm.MethodName)) ∈ lw_all := lw_g (lw_at lw_m3 93 rfl) rfl
theorem q695 : (Jvm.Cond.code ({ cls := "java/lang/StringLatin1", name := "charAt", desc := "([BI)C" } : Jvm.MethodName) prog_31_method_2_code (2 : Nat) (Option.some Jvm.ClassFile.FieldType.char)) ∈ lw_all := lw_g (lw_at lw_m3 94 rfl) rfl
theorem q696 : (Jvm.Cond.methodLink "java/lang/StringLatin1" (9 : Nat) ({ cls := "java/lang/String", name := "checkIndex", desc := "(II)V" } : Jvm.MethodName)) ∈ lw_all := lw_g (lw_at lw_m3 95 rfl) rfl

/-! jdk/internal/util/Preconditions -/
set_option maxRecDepth 100000
def RJ5 : String := "jdk/internal/util/Preconditions"
abbrev cJ5_checkIndex : ByteArray := prog_39_method_11_code
def yJ5_checkIndex : MethodName := ⟨RJ5, "checkIndex", "(IILjava/util/function/BiFunction;)I"⟩
def dkwJ5_checkIndex_0 : List UInt8 := [26, 155, 0, 8, 26, 27, 161, 0, 10, 44, 26, 27, 184, 0, 95, 191, 26, 172]
abbrev dktJ5_checkIndex_0 : List UInt8 := dkwJ5_checkIndex_0 ++ []
theorem dksJ5_checkIndex_0 : cJ5_checkIndex.data.toList.drop 0 = dktJ5_checkIndex_0 := by decide +kernel
theorem dJ5_checkIndex_0 : decode cJ5_checkIndex 0 = .ok (.iload_n 0, 1) := dk_26 (dk_at dksJ5_checkIndex_0 0 rfl rfl)
theorem dJ5_checkIndex_1 : decode cJ5_checkIndex 1 = .ok (.ifCond .lt 8, 3) := dk_155 0 8 (dk_at dksJ5_checkIndex_0 1 rfl rfl)
theorem dJ5_checkIndex_4 : decode cJ5_checkIndex 4 = .ok (.iload_n 0, 1) := dk_26 (dk_at dksJ5_checkIndex_0 4 rfl rfl)
theorem dJ5_checkIndex_5 : decode cJ5_checkIndex 5 = .ok (.iload_n 1, 1) := dk_27 (dk_at dksJ5_checkIndex_0 5 rfl rfl)
theorem dJ5_checkIndex_6 : decode cJ5_checkIndex 6 = .ok (.if_icmp .lt 10, 3) := dk_161 0 10 (dk_at dksJ5_checkIndex_0 6 rfl rfl)
theorem dJ5_checkIndex_9 : decode cJ5_checkIndex 9 = .ok (.aload_n 2, 1) := dk_44 (dk_at dksJ5_checkIndex_0 9 rfl rfl)
theorem dJ5_checkIndex_10 : decode cJ5_checkIndex 10 = .ok (.iload_n 0, 1) := dk_26 (dk_at dksJ5_checkIndex_0 10 rfl rfl)
theorem dJ5_checkIndex_11 : decode cJ5_checkIndex 11 = .ok (.iload_n 1, 1) := dk_27 (dk_at dksJ5_checkIndex_0 11 rfl rfl)
theorem dJ5_checkIndex_12 : decode cJ5_checkIndex 12 = .ok (.invokestatic 95, 3) := dk_184 0 95 (dk_at dksJ5_checkIndex_0 12 rfl rfl)
theorem dJ5_checkIndex_15 : decode cJ5_checkIndex 15 = .ok (.athrow, 1) := dk_191 (dk_at dksJ5_checkIndex_0 15 rfl rfl)
theorem dJ5_checkIndex_16 : decode cJ5_checkIndex 16 = .ok (.iload_n 0, 1) := dk_26 (dk_at dksJ5_checkIndex_0 16 rfl rfl)
theorem dJ5_checkIndex_17 : decode cJ5_checkIndex 17 = .ok (.ireturn, 1) := dk_172 (dk_at dksJ5_checkIndex_0 17 rfl rfl)
theorem q135 : (Jvm.Cond.initialized "jdk/internal/util/Preconditions") ∈ lw_all := lw_g (lw_at lw_m1 14 rfl) rfl
theorem q700 : (Jvm.Cond.laysStatic "jdk/internal/util/Preconditions" "SIOOBE_FORMATTER" "Ljava/util/function/BiFunction;") ∈ lw_tbl := lw_at lw_m3 99 rfl
theorem q702 : (Jvm.Cond.static ({ cls := "jdk/internal/util/Preconditions", name := "checkIndex", desc := "(IILjava/util/function/BiFunction;)I" } : Jvm.MethodName)) ∈ lw_all := lw_g (lw_at lw_m3 101 rfl) rfl
theorem q703 : (Jvm.Cond.code ({ cls := "jdk/internal/util/Preconditions", name := "checkIndex", desc := "(IILjava/util/function/BiFunction;)I" } : Jvm.MethodName) prog_39_method_11_code (3 : Nat) (Option.some Jvm.ClassFile.FieldType.int)) ∈ lw_all := lw_g (lw_at lw_m3 102 rfl) rfl

/-! java/lang/StringUTF16 -/
set_option maxRecDepth 100000
def RJ6 : String := "java/lang/StringUTF16"
abbrev cJ6_charAt : ByteArray := prog_32_method_83_code
def yJ6_charAt : MethodName := ⟨RJ6, "charAt", "([BI)C"⟩
def dkwJ6_charAt_0 : List UInt8 := [27, 42, 184, 0, 67, 42, 27, 184, 0, 71, 172]
abbrev dktJ6_charAt_0 : List UInt8 := dkwJ6_charAt_0 ++ []
theorem dksJ6_charAt_0 : cJ6_charAt.data.toList.drop 0 = dktJ6_charAt_0 := by decide +kernel
theorem dJ6_charAt_0 : decode cJ6_charAt 0 = .ok (.iload_n 1, 1) := dk_27 (dk_at dksJ6_charAt_0 0 rfl rfl)
theorem dJ6_charAt_1 : decode cJ6_charAt 1 = .ok (.aload_n 0, 1) := dk_42 (dk_at dksJ6_charAt_0 1 rfl rfl)
theorem dJ6_charAt_2 : decode cJ6_charAt 2 = .ok (.invokestatic 67, 3) := dk_184 0 67 (dk_at dksJ6_charAt_0 2 rfl rfl)
theorem dJ6_charAt_5 : decode cJ6_charAt 5 = .ok (.aload_n 0, 1) := dk_42 (dk_at dksJ6_charAt_0 5 rfl rfl)
theorem dJ6_charAt_6 : decode cJ6_charAt 6 = .ok (.iload_n 1, 1) := dk_27 (dk_at dksJ6_charAt_0 6 rfl rfl)
theorem dJ6_charAt_7 : decode cJ6_charAt 7 = .ok (.invokestatic 71, 3) := dk_184 0 71 (dk_at dksJ6_charAt_0 7 rfl rfl)
theorem dJ6_charAt_10 : decode cJ6_charAt 10 = .ok (.ireturn, 1) := dk_172 (dk_at dksJ6_charAt_0 10 rfl rfl)
abbrev cJ6_checkIndex : ByteArray := prog_32_method_91_code
def yJ6_checkIndex : MethodName := ⟨RJ6, "checkIndex", "(I[B)V"⟩
def dkwJ6_checkIndex_0 : List UInt8 := [26, 43, 184, 0, 48, 184, 1, 158, 177]
abbrev dktJ6_checkIndex_0 : List UInt8 := dkwJ6_checkIndex_0 ++ []
theorem dksJ6_checkIndex_0 : cJ6_checkIndex.data.toList.drop 0 = dktJ6_checkIndex_0 := by decide +kernel
theorem dJ6_checkIndex_0 : decode cJ6_checkIndex 0 = .ok (.iload_n 0, 1) := dk_26 (dk_at dksJ6_checkIndex_0 0 rfl rfl)
theorem dJ6_checkIndex_1 : decode cJ6_checkIndex 1 = .ok (.aload_n 1, 1) := dk_43 (dk_at dksJ6_checkIndex_0 1 rfl rfl)
theorem dJ6_checkIndex_2 : decode cJ6_checkIndex 2 = .ok (.invokestatic 48, 3) := dk_184 0 48 (dk_at dksJ6_checkIndex_0 2 rfl rfl)
theorem dJ6_checkIndex_5 : decode cJ6_checkIndex 5 = .ok (.invokestatic 414, 3) := dk_184 1 158 (dk_at dksJ6_checkIndex_0 5 rfl rfl)
theorem dJ6_checkIndex_8 : decode cJ6_checkIndex 8 = .ok (.return_, 1) := dk_177 (dk_at dksJ6_checkIndex_0 8 rfl rfl)
abbrev cJ6_length : ByteArray := prog_32_method_6_code
def yJ6_length : MethodName := ⟨RJ6, "length", "([B)I"⟩
def dkwJ6_length_0 : List UInt8 := [42, 190, 4, 122, 172]
abbrev dktJ6_length_0 : List UInt8 := dkwJ6_length_0 ++ []
theorem dksJ6_length_0 : cJ6_length.data.toList.drop 0 = dktJ6_length_0 := by decide +kernel
theorem dJ6_length_0 : decode cJ6_length 0 = .ok (.aload_n 0, 1) := dk_42 (dk_at dksJ6_length_0 0 rfl rfl)
theorem dJ6_length_1 : decode cJ6_length 1 = .ok (.arraylength, 1) := dk_190 (dk_at dksJ6_length_0 1 rfl rfl)
theorem dJ6_length_2 : decode cJ6_length 2 = .ok (.iconst 1, 1) := dk_4 (dk_at dksJ6_length_0 2 rfl rfl)
theorem dJ6_length_3 : decode cJ6_length 3 = .ok (.ishr, 1) := dk_122 (dk_at dksJ6_length_0 3 rfl rfl)
theorem dJ6_length_4 : decode cJ6_length 4 = .ok (.ireturn, 1) := dk_172 (dk_at dksJ6_length_0 4 rfl rfl)
abbrev cJ6_getChar : ByteArray := prog_32_method_5_code
def yJ6_getChar : MethodName := ⟨RJ6, "getChar", "([BI)C"⟩
def dkwJ6_getChar_2 : List UInt8 := [51, 17, 0, 255, 126, 178, 0, 63, 120, 128, 146, 172]
abbrev dktJ6_getChar_2 : List UInt8 := dkwJ6_getChar_2 ++ []
def dkwJ6_getChar_1 : List UInt8 := [183, 0, 56, 191, 27, 4, 120, 60, 42, 27, 132, 1, 1, 51, 17, 0, 255, 126, 178, 0, 59, 120, 42, 27]
abbrev dktJ6_getChar_1 : List UInt8 := dkwJ6_getChar_1 ++ dktJ6_getChar_2
def dkwJ6_getChar_0 : List UInt8 := [178, 0, 44, 154, 0, 25, 27, 155, 0, 11, 27, 42, 184, 0, 48, 161, 0, 13, 187, 0, 52, 89, 18, 54]
abbrev dktJ6_getChar_0 : List UInt8 := dkwJ6_getChar_0 ++ dktJ6_getChar_1
theorem dksJ6_getChar_0 : cJ6_getChar.data.toList.drop 0 = dktJ6_getChar_0 := by decide +kernel
theorem dksJ6_getChar_1 : cJ6_getChar.data.toList.drop 24 = dktJ6_getChar_1 := dk_seg dksJ6_getChar_0 24 rfl rfl
theorem dksJ6_getChar_2 : cJ6_getChar.data.toList.drop 48 = dktJ6_getChar_2 := dk_seg dksJ6_getChar_1 24 rfl rfl
theorem dJ6_getChar_0 : decode cJ6_getChar 0 = .ok (.getstatic 44, 3) := dk_178 0 44 (dk_at dksJ6_getChar_0 0 rfl rfl)
theorem dJ6_getChar_3 : decode cJ6_getChar 3 = .ok (.ifCond .ne 25, 3) := dk_154 0 25 (dk_at dksJ6_getChar_0 3 rfl rfl)
theorem dJ6_getChar_6 : decode cJ6_getChar 6 = .ok (.iload_n 1, 1) := dk_27 (dk_at dksJ6_getChar_0 6 rfl rfl)
theorem dJ6_getChar_7 : decode cJ6_getChar 7 = .ok (.ifCond .lt 11, 3) := dk_155 0 11 (dk_at dksJ6_getChar_0 7 rfl rfl)
theorem dJ6_getChar_10 : decode cJ6_getChar 10 = .ok (.iload_n 1, 1) := dk_27 (dk_at dksJ6_getChar_0 10 rfl rfl)
theorem dJ6_getChar_11 : decode cJ6_getChar 11 = .ok (.aload_n 0, 1) := dk_42 (dk_at dksJ6_getChar_0 11 rfl rfl)
theorem dJ6_getChar_12 : decode cJ6_getChar 12 = .ok (.invokestatic 48, 3) := dk_184 0 48 (dk_at dksJ6_getChar_0 12 rfl rfl)
theorem dJ6_getChar_15 : decode cJ6_getChar 15 = .ok (.if_icmp .lt 13, 3) := dk_161 0 13 (dk_at dksJ6_getChar_0 15 rfl rfl)
theorem dJ6_getChar_18 : decode cJ6_getChar 18 = .ok (.new 52, 3) := dk_187 0 52 (dk_at dksJ6_getChar_0 18 rfl rfl)
theorem dJ6_getChar_21 : decode cJ6_getChar 21 = .ok (.dup, 1) := dk_89 (dk_at dksJ6_getChar_0 21 rfl rfl)
theorem dJ6_getChar_22 : decode cJ6_getChar 22 = .ok (.ldc 54, 2) := dk_18 54 (dk_at dksJ6_getChar_0 22 rfl rfl)
theorem dJ6_getChar_24 : decode cJ6_getChar 24 = .ok (.invokespecial 56, 3) := dk_183 0 56 (dk_at dksJ6_getChar_1 0 rfl rfl)
theorem dJ6_getChar_27 : decode cJ6_getChar 27 = .ok (.athrow, 1) := dk_191 (dk_at dksJ6_getChar_1 3 rfl rfl)
theorem dJ6_getChar_28 : decode cJ6_getChar 28 = .ok (.iload_n 1, 1) := dk_27 (dk_at dksJ6_getChar_1 4 rfl rfl)
theorem dJ6_getChar_29 : decode cJ6_getChar 29 = .ok (.iconst 1, 1) := dk_4 (dk_at dksJ6_getChar_1 5 rfl rfl)
theorem dJ6_getChar_30 : decode cJ6_getChar 30 = .ok (.ishl, 1) := dk_120 (dk_at dksJ6_getChar_1 6 rfl rfl)
theorem dJ6_getChar_31 : decode cJ6_getChar 31 = .ok (.istore_n 1, 1) := dk_60 (dk_at dksJ6_getChar_1 7 rfl rfl)
theorem dJ6_getChar_32 : decode cJ6_getChar 32 = .ok (.aload_n 0, 1) := dk_42 (dk_at dksJ6_getChar_1 8 rfl rfl)
theorem dJ6_getChar_33 : decode cJ6_getChar 33 = .ok (.iload_n 1, 1) := dk_27 (dk_at dksJ6_getChar_1 9 rfl rfl)
theorem dJ6_getChar_34 : decode cJ6_getChar 34 = .ok (.iinc 1 1, 3) := dk_132 1 1 (dk_at dksJ6_getChar_1 10 rfl rfl)
theorem dJ6_getChar_37 : decode cJ6_getChar 37 = .ok (.baload, 1) := dk_51 (dk_at dksJ6_getChar_1 13 rfl rfl)
theorem dJ6_getChar_38 : decode cJ6_getChar 38 = .ok (.sipush 255, 3) := dk_17 0 255 (dk_at dksJ6_getChar_1 14 rfl rfl)
theorem dJ6_getChar_41 : decode cJ6_getChar 41 = .ok (.iand, 1) := dk_126 (dk_at dksJ6_getChar_1 17 rfl rfl)
theorem dJ6_getChar_42 : decode cJ6_getChar 42 = .ok (.getstatic 59, 3) := dk_178 0 59 (dk_at dksJ6_getChar_1 18 rfl rfl)
theorem dJ6_getChar_45 : decode cJ6_getChar 45 = .ok (.ishl, 1) := dk_120 (dk_at dksJ6_getChar_1 21 rfl rfl)
theorem dJ6_getChar_46 : decode cJ6_getChar 46 = .ok (.aload_n 0, 1) := dk_42 (dk_at dksJ6_getChar_1 22 rfl rfl)
theorem dJ6_getChar_47 : decode cJ6_getChar 47 = .ok (.iload_n 1, 1) := dk_27 (dk_at dksJ6_getChar_1 23 rfl rfl)
theorem dJ6_getChar_48 : decode cJ6_getChar 48 = .ok (.baload, 1) := dk_51 (dk_at dksJ6_getChar_2 0 rfl rfl)
theorem dJ6_getChar_49 : decode cJ6_getChar 49 = .ok (.sipush 255, 3) := dk_17 0 255 (dk_at dksJ6_getChar_2 1 rfl rfl)
theorem dJ6_getChar_52 : decode cJ6_getChar 52 = .ok (.iand, 1) := dk_126 (dk_at dksJ6_getChar_2 4 rfl rfl)
theorem dJ6_getChar_53 : decode cJ6_getChar 53 = .ok (.getstatic 63, 3) := dk_178 0 63 (dk_at dksJ6_getChar_2 5 rfl rfl)
theorem dJ6_getChar_56 : decode cJ6_getChar 56 = .ok (.ishl, 1) := dk_120 (dk_at dksJ6_getChar_2 8 rfl rfl)
theorem dJ6_getChar_57 : decode cJ6_getChar 57 = .ok (.ior, 1) := dk_128 (dk_at dksJ6_getChar_2 9 rfl rfl)
theorem dJ6_getChar_58 : decode cJ6_getChar 58 = .ok (.i2c, 1) := dk_146 (dk_at dksJ6_getChar_2 10 rfl rfl)
theorem dJ6_getChar_59 : decode cJ6_getChar 59 = .ok (.ireturn, 1) := dk_172 (dk_at dksJ6_getChar_2 11 rfl rfl)
theorem q136 : (Jvm.Cond.initialized "java/lang/StringUTF16") ∈ lw_all := lw_g (lw_at lw_m1 15 rfl) rfl
theorem q705 : (Jvm.Cond.static ({ cls := "java/lang/StringUTF16", name := "charAt", desc := "([BI)C" } : Jvm.MethodName)) ∈ lw_all := lw_g (lw_at lw_m3 104 rfl) rfl
theorem q706 : (Jvm.Cond.code ({ cls := "java/lang/StringUTF16", name := "charAt", desc := "([BI)C" } : Jvm.MethodName) prog_32_method_83_code (2 : Nat) (Option.some Jvm.ClassFile.FieldType.char)) ∈ lw_all := lw_g (lw_at lw_m3 105 rfl) rfl
theorem q707 : (Jvm.Cond.methodLink "java/lang/StringUTF16" (67 : Nat) ({ cls := "java/lang/StringUTF16", name := "checkIndex", desc := "(I[B)V" } : Jvm.MethodName)) ∈ lw_all := lw_g (lw_at lw_m3 106 rfl) rfl
theorem q708 : (Jvm.Cond.static ({ cls := "java/lang/StringUTF16", name := "checkIndex", desc := "(I[B)V" } : Jvm.MethodName)) ∈ lw_all := lw_g (lw_at lw_m3 107 rfl) rfl
theorem q709 : (Jvm.Cond.code ({ cls := "java/lang/StringUTF16", name := "checkIndex", desc := "(I[B)V" } : Jvm.MethodName) prog_32_method_91_code (2 : Nat) (Option.none : Option Jvm.ClassFile.FieldType)) ∈ lw_all := lw_g (lw_at lw_m3 108 rfl) rfl
theorem q710 : (Jvm.Cond.methodLink "java/lang/StringUTF16" (48 : Nat) ({ cls := "java/lang/StringUTF16", name := "length", desc := "([B)I" } : Jvm.MethodName)) ∈ lw_all := lw_g (lw_at lw_m3 109 rfl) rfl
theorem q711 : (Jvm.Cond.static ({ cls := "java/lang/StringUTF16", name := "length", desc := "([B)I" } : Jvm.MethodName)) ∈ lw_all := lw_g (lw_at lw_m3 110 rfl) rfl
theorem q712 : (Jvm.Cond.code ({ cls := "java/lang/StringUTF16", name := "length", desc := "([B)I" } : Jvm.MethodName) prog_32_method_6_code (1 : Nat) (Option.some Jvm.ClassFile.FieldType.int)) ∈ lw_all := lw_g (lw_at lw_m3 111 rfl) rfl
theorem q713 : (Jvm.Cond.methodLink "java/lang/StringUTF16" (414 : Nat) ({ cls := "java/lang/String", name := "checkIndex", desc := "(II)V" } : Jvm.MethodName)) ∈ lw_all := lw_g (lw_at lw_m3 112 rfl) rfl
theorem q714 : (Jvm.Cond.methodLink "java/lang/StringUTF16" (71 : Nat) ({ cls := "java/lang/StringUTF16", name := "getChar", desc := "([BI)C" } : Jvm.MethodName)) ∈ lw_all := lw_g (lw_at lw_m3 113 rfl) rfl
theorem q715 : (Jvm.Cond.static ({ cls := "java/lang/StringUTF16", name := "getChar", desc := "([BI)C" } : Jvm.MethodName)) ∈ lw_all := lw_g (lw_at lw_m3 114 rfl) rfl
theorem q716 : (Jvm.Cond.code ({ cls := "java/lang/StringUTF16", name := "getChar", desc := "([BI)C" } : Jvm.MethodName) prog_32_method_5_code (2 : Nat) (Option.some Jvm.ClassFile.FieldType.char)) ∈ lw_all := lw_g (lw_at lw_m3 115 rfl) rfl
theorem q717 : (Jvm.Cond.fieldLink "java/lang/StringUTF16" (44 : Nat) "java/lang/StringUTF16" "$assertionsDisabled" "Z") ∈ lw_all := lw_g (lw_at lw_m3 116 rfl) rfl
theorem q718 : (Jvm.Cond.laysStatic "java/lang/StringUTF16" "$assertionsDisabled" "Z") ∈ lw_tbl := lw_at lw_m3 117 rfl
theorem q719 : (Jvm.Cond.fieldLink "java/lang/StringUTF16" (59 : Nat) "java/lang/StringUTF16" "HI_BYTE_SHIFT" "I") ∈ lw_all := lw_g (lw_at lw_m3 118 rfl) rfl
theorem q720 : (Jvm.Cond.laysStatic "java/lang/StringUTF16" "HI_BYTE_SHIFT" "I") ∈ lw_tbl := lw_at lw_m3 119 rfl
theorem q721 : (Jvm.Cond.fieldLink "java/lang/StringUTF16" (63 : Nat) "java/lang/StringUTF16" "LO_BYTE_SHIFT" "I") ∈ lw_all := lw_g (lw_at lw_m3 120 rfl) rfl
theorem q722 : (Jvm.Cond.laysStatic "java/lang/StringUTF16" "LO_BYTE_SHIFT" "I") ∈ lw_tbl := lw_at lw_m3 121 rfl

/-! java/lang/IllegalArgumentException -/
set_option maxRecDepth 100000
def RJ7 : String := "java/lang/IllegalArgumentException"
def TJ7 : u_T := fun k => match k with
  | 0 => ("java/lang/Throwable", "cause", "Ljava/lang/Throwable;", false)
  | 1 => ("java/lang/Throwable", "stackTrace", "[Ljava/lang/StackTraceElement;", false)
  | 2 => ("java/lang/Throwable", "suppressedExceptions", "Ljava/util/List;", false)
  | 3 => ("java/lang/Throwable", "detailMessage", "Ljava/lang/String;", false)
  | 4 => ("java/lang/Throwable", "backtrace", "Ljava/lang/Object;", false)
  | _ => ("java/lang/Throwable", "depth", "I", false)
def tyJ7 : Nat → FieldType := fun k => match k with
  | 0 => .object "java/lang/Throwable"
  | 1 => .array (.object "java/lang/StackTraceElement")
  | 2 => .object "java/util/List"
  | 3 => .object "java/lang/String"
  | 4 => .object "java/lang/Object"
  | _ => .int
abbrev wsJ70 : List Cond := u_ws RJ7 TJ7 6
theorem nmJ7 : ∀ a, a < 6 → ∀ b, b < 6 → a ≠ b → (TJ7 a).2.1 ≠ (TJ7 b).2.1 := by decide +kernel
theorem tyJ7_ok : ∀ k, k < 6 → parseFieldDescriptor (TJ7 k).2.2.1 = some (tyJ7 k) := by decide +kernel
abbrev cJ7_init : ByteArray := prog_24_method_1_code
def yJ7_init : MethodName := ⟨RJ7, "<init>", "()V"⟩
theorem dJ7_init_0 : decode cJ7_init 0 = .ok (.aload_n 0, 1) := by decide +kernel
theorem dJ7_init_1 : decode cJ7_init 1 = .ok (.invokespecial 1, 3) := by decide +kernel
theorem dJ7_init_4 : decode cJ7_init 4 = .ok (.return_, 1) := by decide +kernel
theorem q137 : (Jvm.Cond.initialized "java/lang/IllegalArgumentException") ∈ lw_all := lw_g (lw_at lw_m1 16 rfl) rfl
theorem q365 : (Jvm.Cond.selects "java/lang/IllegalArgumentException" ({ cls := "java/lang/Throwable", name := "fillInStackTrace", desc := "()Ljava/lang/Throwable;" } : Jvm.MethodName) ({ cls := "java/lang/Throwable", name := "fillInStackTrace", desc := "()Ljava/lang/Throwable;" } : Jvm.MethodName)) ∈ lw_all := lw_g (lw_at lw_m2 4 rfl) rfl
theorem q763 : (Jvm.Cond.instantiable "java/lang/IllegalArgumentException" (6 : Nat)) ∈ lw_all := lw_g (lw_at lw_m3 162 rfl) rfl
theorem q764 : (Jvm.Cond.castable "java/lang/IllegalArgumentException" "java/lang/IllegalArgumentException") ∈ lw_tbl := lw_at lw_m3 163 rfl
theorem q765 : (Jvm.Cond.selects "java/lang/IllegalArgumentException" ({ cls := "java/lang/Throwable", name := "fillInStackTrace", desc := "(I)Ljava/lang/Throwable;" } : Jvm.MethodName) ({ cls := "java/lang/Throwable", name := "fillInStackTrace", desc := "(I)Ljava/lang/Throwable;" } : Jvm.MethodName)) ∈ lw_all := lw_g (lw_at lw_m3 164 rfl) rfl
theorem q766 : (Jvm.Cond.lays "java/lang/IllegalArgumentException" "java/lang/Throwable" "cause" "Ljava/lang/Throwable;") ∈ lw_all := lw_g (lw_at lw_m3 165 rfl) rfl
theorem q767 : (Jvm.Cond.lays "java/lang/IllegalArgumentException" "java/lang/Throwable" "stackTrace" "[Ljava/lang/StackTraceElement;") ∈ lw_all := lw_g (lw_at lw_m3 166 rfl) rfl
theorem q768 : (Jvm.Cond.lays "java/lang/IllegalArgumentException" "java/lang/Throwable" "suppressedExceptions" "Ljava/util/List;") ∈ lw_all := lw_g (lw_at lw_m3 167 rfl) rfl
theorem q769 : (Jvm.Cond.lays "java/lang/IllegalArgumentException" "java/lang/Throwable" "detailMessage" "Ljava/lang/String;") ∈ lw_all := lw_g (lw_at lw_m3 168 rfl) rfl
theorem q770 : (Jvm.Cond.lays "java/lang/IllegalArgumentException" "java/lang/Throwable" "backtrace" "Ljava/lang/Object;") ∈ lw_all := lw_g (lw_at lw_m3 169 rfl) rfl
theorem q772 : (Jvm.Cond.instanceMethod ({ cls := "java/lang/IllegalArgumentException", name := "<init>", desc := "()V" } : Jvm.MethodName)) ∈ lw_all := lw_g (lw_at lw_m3 171 rfl) rfl
theorem q773 : (Jvm.Cond.code ({ cls := "java/lang/IllegalArgumentException", name := "<init>", desc := "()V" } : Jvm.MethodName) prog_24_method_1_code (1 : Nat) (Option.none : Option Jvm.ClassFile.FieldType)) ∈ lw_all := lw_g (lw_at lw_m3 172 rfl) rfl
theorem q774 : (Jvm.Cond.methodLink "java/lang/IllegalArgumentException" (1 : Nat) ({ cls := "java/lang/RuntimeException", name := "<init>", desc := "()V" } : Jvm.MethodName)) ∈ lw_all := lw_g (lw_at lw_m3 173 rfl) rfl
theorem q781 : (Jvm.Cond.lays "java/lang/IllegalArgumentException" "java/lang/Throwable" "depth" "I") ∈ lw_all := lw_g (lw_at lw_m3 180 rfl) rfl
theorem q782 : (Jvm.Cond.superclass "java/lang/IllegalArgumentException" "java/lang/RuntimeException") ∈ lw_all := lw_g (lw_at lw_m3 181 rfl) rfl
theorem q2097 : (Jvm.Cond.castable "java/lang/IllegalArgumentException" "java/lang/Object") ∈ lw_tbl := lw_at lw_m9 56 rfl
theorem in_J7 : ∀ w ∈ wsJ70, w ∈ lw_all := lw_in wsJ70 [766, 767, 768, 769, 770, 781] (by decide +kernel) (by decide +kernel)

/-! java/lang/UnsupportedOperationException -/
set_option maxRecDepth 100000
def RJ8 : String := "java/lang/UnsupportedOperationException"
def TJ8 : u_T := fun k => match k with
  | 0 => ("java/lang/Throwable", "cause", "Ljava/lang/Throwable;", false)
  | 1 => ("java/lang/Throwable", "stackTrace", "[Ljava/lang/StackTraceElement;", false)
  | 2 => ("java/lang/Throwable", "suppressedExceptions", "Ljava/util/List;", false)
  | 3 => ("java/lang/Throwable", "detailMessage", "Ljava/lang/String;", false)
  | 4 => ("java/lang/Throwable", "backtrace", "Ljava/lang/Object;", false)
  | _ => ("java/lang/Throwable", "depth", "I", false)
def tyJ8 : Nat → FieldType := fun k => match k with
  | 0 => .object "java/lang/Throwable"
  | 1 => .array (.object "java/lang/StackTraceElement")
  | 2 => .object "java/util/List"
  | 3 => .object "java/lang/String"
  | 4 => .object "java/lang/Object"
  | _ => .int
abbrev wsJ80 : List Cond := u_ws RJ8 TJ8 6
theorem nmJ8 : ∀ a, a < 6 → ∀ b, b < 6 → a ≠ b → (TJ8 a).2.1 ≠ (TJ8 b).2.1 := by decide +kernel
theorem tyJ8_ok : ∀ k, k < 6 → parseFieldDescriptor (TJ8 k).2.2.1 = some (tyJ8 k) := by decide +kernel
abbrev cJ8_init : ByteArray := prog_35_method_1_code
def yJ8_init : MethodName := ⟨RJ8, "<init>", "()V"⟩
theorem dJ8_init_0 : decode cJ8_init 0 = .ok (.aload_n 0, 1) := by decide +kernel
theorem dJ8_init_1 : decode cJ8_init 1 = .ok (.invokespecial 1, 3) := by decide +kernel
theorem dJ8_init_4 : decode cJ8_init 4 = .ok (.return_, 1) := by decide +kernel
theorem q138 : (Jvm.Cond.initialized "java/lang/UnsupportedOperationException") ∈ lw_all := lw_g (lw_at lw_m1 17 rfl) rfl
theorem q368 : (Jvm.Cond.selects "java/lang/UnsupportedOperationException" ({ cls := "java/lang/Throwable", name := "fillInStackTrace", desc := "()Ljava/lang/Throwable;" } : Jvm.MethodName) ({ cls := "java/lang/Throwable", name := "fillInStackTrace", desc := "()Ljava/lang/Throwable;" } : Jvm.MethodName)) ∈ lw_all := lw_g (lw_at lw_m2 7 rfl) rfl
theorem q787 : (Jvm.Cond.instantiable "java/lang/UnsupportedOperationException" (6 : Nat)) ∈ lw_all := lw_g (lw_at lw_m3 186 rfl) rfl
theorem q788 : (Jvm.Cond.castable "java/lang/UnsupportedOperationException" "java/lang/UnsupportedOperationException") ∈ lw_tbl := lw_at lw_m3 187 rfl
theorem q789 : (Jvm.Cond.selects "java/lang/UnsupportedOperationException" ({ cls := "java/lang/Throwable", name := "fillInStackTrace", desc := "(I)Ljava/lang/Throwable;" } : Jvm.MethodName) ({ cls := "java/lang/Throwable", name := "fillInStackTrace", desc := "(I)Ljava/lang/Throwable;" } : Jvm.MethodName)) ∈ lw_all := lw_g (lw_at lw_m3 188 rfl) rfl
theorem q790 : (Jvm.Cond.lays "java/lang/UnsupportedOperationException" "java/lang/Throwable" "cause" "Ljava/lang/Throwable;") ∈ lw_all := lw_g (lw_at lw_m3 189 rfl) rfl
theorem q791 : (Jvm.Cond.lays "java/lang/UnsupportedOperationException" "java/lang/Throwable" "stackTrace" "[Ljava/lang/StackTraceElement;") ∈ lw_all := lw_g (lw_at lw_m3 190 rfl) rfl
theorem q792 : (Jvm.Cond.lays "java/lang/UnsupportedOperationException" "java/lang/Throwable" "suppressedExceptions" "Ljava/util/List;") ∈ lw_all := lw_g (lw_at lw_m3 191 rfl) rfl
theorem q793 : (Jvm.Cond.lays "java/lang/UnsupportedOperationException" "java/lang/Throwable" "detailMessage" "Ljava/lang/String;") ∈ lw_all := lw_g (lw_at lw_m3 192 rfl) rfl
theorem q794 : (Jvm.Cond.lays "java/lang/UnsupportedOperationException" "java/lang/Throwable" "backtrace" "Ljava/lang/Object;") ∈ lw_all := lw_g (lw_at lw_m3 193 rfl) rfl
theorem q796 : (Jvm.Cond.instanceMethod ({ cls := "java/lang/UnsupportedOperationException", name := "<init>", desc := "()V" } : Jvm.MethodName)) ∈ lw_all := lw_g (lw_at lw_m3 195 rfl) rfl
theorem q797 : (Jvm.Cond.code ({ cls := "java/lang/UnsupportedOperationException", name := "<init>", desc := "()V" } : Jvm.MethodName) prog_35_method_1_code (1 : Nat) (Option.none : Option Jvm.ClassFile.FieldType)) ∈ lw_all := lw_g (lw_at lw_m3 196 rfl) rfl
theorem q798 : (Jvm.Cond.methodLink "java/lang/UnsupportedOperationException" (1 : Nat) ({ cls := "java/lang/RuntimeException", name := "<init>", desc := "()V" } : Jvm.MethodName)) ∈ lw_all := lw_g (lw_at lw_m3 197 rfl) rfl
theorem q799 : (Jvm.Cond.lays "java/lang/UnsupportedOperationException" "java/lang/Throwable" "depth" "I") ∈ lw_all := lw_g (lw_at lw_m3 198 rfl) rfl
theorem q800 : (Jvm.Cond.superclass "java/lang/UnsupportedOperationException" "java/lang/RuntimeException") ∈ lw_all := lw_g (lw_at lw_m3 199 rfl) rfl
theorem q2098 : (Jvm.Cond.castable "java/lang/UnsupportedOperationException" "java/lang/Object") ∈ lw_tbl := lw_at lw_m9 57 rfl
theorem in_J8 : ∀ w ∈ wsJ80, w ∈ lw_all := lw_in wsJ80 [790, 791, 792, 793, 794, 799] (by decide +kernel) (by decide +kernel)

/-! java/lang/IndexOutOfBoundsException -/
set_option maxRecDepth 100000
def RJ9 : String := "java/lang/IndexOutOfBoundsException"
def TJ9 : u_T := fun k => match k with
  | 0 => ("java/lang/Throwable", "cause", "Ljava/lang/Throwable;", false)
  | 1 => ("java/lang/Throwable", "stackTrace", "[Ljava/lang/StackTraceElement;", false)
  | 2 => ("java/lang/Throwable", "suppressedExceptions", "Ljava/util/List;", false)
  | 3 => ("java/lang/Throwable", "detailMessage", "Ljava/lang/String;", false)
  | 4 => ("java/lang/Throwable", "backtrace", "Ljava/lang/Object;", false)
  | _ => ("java/lang/Throwable", "depth", "I", false)
def tyJ9 : Nat → FieldType := fun k => match k with
  | 0 => .object "java/lang/Throwable"
  | 1 => .array (.object "java/lang/StackTraceElement")
  | 2 => .object "java/util/List"
  | 3 => .object "java/lang/String"
  | 4 => .object "java/lang/Object"
  | _ => .int
abbrev wsJ90 : List Cond := u_ws RJ9 TJ9 6
theorem nmJ9 : ∀ a, a < 6 → ∀ b, b < 6 → a ≠ b → (TJ9 a).2.1 ≠ (TJ9 b).2.1 := by decide +kernel
theorem tyJ9_ok : ∀ k, k < 6 → parseFieldDescriptor (TJ9 k).2.2.1 = some (tyJ9 k) := by decide +kernel
abbrev cJ9_init : ByteArray := prog_26_method_2_code
def yJ9_init : MethodName := ⟨RJ9, "<init>", "(Ljava/lang/String;)V"⟩
def dkwJ9_init_0 : List UInt8 := [42, 43, 183, 0, 7, 177]
abbrev dktJ9_init_0 : List UInt8 := dkwJ9_init_0 ++ []
theorem dksJ9_init_0 : cJ9_init.data.toList.drop 0 = dktJ9_init_0 := by decide +kernel
theorem dJ9_init_0 : decode cJ9_init 0 = .ok (.aload_n 0, 1) := dk_42 (dk_at dksJ9_init_0 0 rfl rfl)
theorem dJ9_init_1 : decode cJ9_init 1 = .ok (.aload_n 1, 1) := dk_43 (dk_at dksJ9_init_0 1 rfl rfl)
theorem dJ9_init_2 : decode cJ9_init 2 = .ok (.invokespecial 7, 3) := dk_183 0 7 (dk_at dksJ9_init_0 2 rfl rfl)
theorem dJ9_init_5 : decode cJ9_init 5 = .ok (.return_, 1) := dk_177 (dk_at dksJ9_init_0 5 rfl rfl)
abbrev cJ9_init_2 : ByteArray := prog_26_method_1_code
def yJ9_init_2 : MethodName := ⟨RJ9, "<init>", "()V"⟩
theorem dJ9_init_2_0 : decode cJ9_init_2 0 = .ok (.aload_n 0, 1) := by decide +kernel
theorem dJ9_init_2_1 : decode cJ9_init_2 1 = .ok (.invokespecial 1, 3) := by decide +kernel
theorem dJ9_init_2_4 : decode cJ9_init_2 4 = .ok (.return_, 1) := by decide +kernel
theorem q148 : (Jvm.Cond.initialized "java/lang/IndexOutOfBoundsException") ∈ lw_all := lw_g (lw_at lw_m1 27 rfl) rfl
theorem q367 : (Jvm.Cond.selects "java/lang/IndexOutOfBoundsException" ({ cls := "java/lang/Throwable", name := "fillInStackTrace", desc := "()Ljava/lang/Throwable;" } : Jvm.MethodName) ({ cls := "java/lang/Throwable", name := "fillInStackTrace", desc := "()Ljava/lang/Throwable;" } : Jvm.MethodName)) ∈ lw_all := lw_g (lw_at lw_m2 6 rfl) rfl
theorem q951 : (Jvm.Cond.instanceMethod ({ cls := "java/lang/IndexOutOfBoundsException", name := "<init>", desc := "(Ljava/lang/String;)V" } : Jvm.MethodName)) ∈ lw_all := lw_g (lw_at lw_m4 110 rfl) rfl
theorem q952 : (Jvm.Cond.code ({ cls := "java/lang/IndexOutOfBoundsException", name := "<init>", desc := "(Ljava/lang/String;)V" } : Jvm.MethodName) prog_26_method_2_code (2 : Nat) (Option.none : Option Jvm.ClassFile.FieldType)) ∈ lw_all := lw_g (lw_at lw_m4 111 rfl) rfl
theorem q953 : (Jvm.Cond.methodLink "java/lang/IndexOutOfBoundsException" (7 : Nat) ({ cls := "java/lang/RuntimeException", name := "<init>", desc := "(Ljava/lang/String;)V" } : Jvm.MethodName)) ∈ lw_all := lw_g (lw_at lw_m4 112 rfl) rfl
theorem q970 : (Jvm.Cond.declares ({ cls := "java/lang/IndexOutOfBoundsException", name := "<init>", desc := "()V" } : Jvm.MethodName)) ∈ lw_tbl := lw_at lw_m4 129 rfl
theorem q971 : (Jvm.Cond.declares ({ cls := "java/lang/IndexOutOfBoundsException", name := "<init>", desc := "(Ljava/lang/String;)V" } : Jvm.MethodName)) ∈ lw_tbl := lw_at lw_m4 130 rfl
theorem q991 : (Jvm.Cond.instantiable "java/lang/IndexOutOfBoundsException" (6 : Nat)) ∈ lw_all := lw_g (lw_at lw_m4 150 rfl) rfl
theorem q992 : (Jvm.Cond.castable "java/lang/IndexOutOfBoundsException" "java/lang/IndexOutOfBoundsException") ∈ lw_tbl := lw_at lw_m4 151 rfl
theorem q993 : (Jvm.Cond.selects "java/lang/IndexOutOfBoundsException" ({ cls := "java/lang/Throwable", name := "fillInStackTrace", desc := "(I)Ljava/lang/Throwable;" } : Jvm.MethodName) ({ cls := "java/lang/Throwable", name := "fillInStackTrace", desc := "(I)Ljava/lang/Throwable;" } : Jvm.MethodName)) ∈ lw_all := lw_g (lw_at lw_m4 152 rfl) rfl
theorem q994 : (Jvm.Cond.lays "java/lang/IndexOutOfBoundsException" "java/lang/Throwable" "cause" "Ljava/lang/Throwable;") ∈ lw_all := lw_g (lw_at lw_m4 153 rfl) rfl
theorem q995 : (Jvm.Cond.lays "java/lang/IndexOutOfBoundsException" "java/lang/Throwable" "stackTrace" "[Ljava/lang/StackTraceElement;") ∈ lw_all := lw_g (lw_at lw_m4 154 rfl) rfl
theorem q996 : (Jvm.Cond.lays "java/lang/IndexOutOfBoundsException" "java/lang/Throwable" "suppressedExceptions" "Ljava/util/List;") ∈ lw_all := lw_g (lw_at lw_m4 155 rfl) rfl
theorem q997 : (Jvm.Cond.lays "java/lang/IndexOutOfBoundsException" "java/lang/Throwable" "detailMessage" "Ljava/lang/String;") ∈ lw_all := lw_g (lw_at lw_m4 156 rfl) rfl
theorem q998 : (Jvm.Cond.lays "java/lang/IndexOutOfBoundsException" "java/lang/Throwable" "backtrace" "Ljava/lang/Object;") ∈ lw_all := lw_g (lw_at lw_m4 157 rfl) rfl
theorem q1000 : (Jvm.Cond.instanceMethod ({ cls := "java/lang/IndexOutOfBoundsException", name := "<init>", desc := "()V" } : Jvm.MethodName)) ∈ lw_all := lw_g (lw_at lw_m4 159 rfl) rfl
theorem q1001 : (Jvm.Cond.code ({ cls := "java/lang/IndexOutOfBoundsException", name := "<init>", desc := "()V" } : Jvm.MethodName) prog_26_method_1_code (1 : Nat) (Option.none : Option Jvm.ClassFile.FieldType)) ∈ lw_all := lw_g (lw_at lw_m4 160 rfl) rfl
theorem q1002 : (Jvm.Cond.methodLink "java/lang/IndexOutOfBoundsException" (1 : Nat) ({ cls := "java/lang/RuntimeException", name := "<init>", desc := "()V" } : Jvm.MethodName)) ∈ lw_all := lw_g (lw_at lw_m4 161 rfl) rfl
theorem q1003 : (Jvm.Cond.lays "java/lang/IndexOutOfBoundsException" "java/lang/Throwable" "depth" "I") ∈ lw_all := lw_g (lw_at lw_m4 162 rfl) rfl
theorem q1004 : (Jvm.Cond.superclass "java/lang/IndexOutOfBoundsException" "java/lang/RuntimeException") ∈ lw_all := lw_g (lw_at lw_m4 163 rfl) rfl
theorem q2108 : (Jvm.Cond.castable "java/lang/IndexOutOfBoundsException" "java/lang/Object") ∈ lw_tbl := lw_at lw_m9 67 rfl
theorem in_J9 : ∀ w ∈ wsJ90, w ∈ lw_all := lw_in wsJ90 [994, 995, 996, 997, 998, 1003] (by decide +kernel) (by decide +kernel)

/-! BorrowedLuck$Sum -/
set_option maxRecDepth 100000
def RX10 : String := "BorrowedLuck$Sum"
def TX10 : u_T := fun k => match k with
  | 0 => ("BorrowedLuck$Sum", "times", "[I", true)
  | _ => ("BorrowedLuck$Sum", "number", "I", false)
def tyX10 : Nat → FieldType := fun k => match k with
  | 0 => .array .int
  | _ => .int
abbrev wsX100 : List Cond := u_ws RX10 TX10 2
theorem nmX10 : ∀ a, a < 2 → ∀ b, b < 2 → a ≠ b → (TX10 a).2.1 ≠ (TX10 b).2.1 := by decide +kernel
theorem tyX10_ok : ∀ k, k < 2 → parseFieldDescriptor (TX10 k).2.2.1 = some (tyX10 k) := by decide +kernel
abbrev cX10_init : ByteArray := prog_11_method_1_code
def yX10_init : MethodName := ⟨RX10, "<init>", "()V"⟩
def dkwX10_init_0 : List UInt8 := [42, 183, 0, 3, 42, 16, 7, 188, 10, 181, 0, 9, 177]
abbrev dktX10_init_0 : List UInt8 := dkwX10_init_0 ++ []
theorem dksX10_init_0 : cX10_init.data.toList.drop 0 = dktX10_init_0 := by decide +kernel
theorem dX10_init_0 : decode cX10_init 0 = .ok (.aload_n 0, 1) := dk_42 (dk_at dksX10_init_0 0 rfl rfl)
theorem dX10_init_1 : decode cX10_init 1 = .ok (.invokespecial 3, 3) := dk_183 0 3 (dk_at dksX10_init_0 1 rfl rfl)
theorem dX10_init_4 : decode cX10_init 4 = .ok (.aload_n 0, 1) := dk_42 (dk_at dksX10_init_0 4 rfl rfl)
theorem dX10_init_5 : decode cX10_init 5 = .ok (.bipush 7, 2) := dk_16 7 (dk_at dksX10_init_0 5 rfl rfl)
theorem dX10_init_7 : decode cX10_init 7 = .ok (.newarray .int, 2) := dk_188_10 (dk_at dksX10_init_0 7 rfl rfl)
theorem dX10_init_9 : decode cX10_init 9 = .ok (.putfield 9, 3) := dk_181 0 9 (dk_at dksX10_init_0 9 rfl rfl)
theorem dX10_init_12 : decode cX10_init 12 = .ok (.return_, 1) := dk_177 (dk_at dksX10_init_0 12 rfl rfl)
abbrev cX10_of : ByteArray := prog_11_method_2_code
def yX10_of : MethodName := ⟨RX10, "of", "([I)I"⟩
def dkwX10_of_1 : List UInt8 := [96, 61, 132, 3, 1, 167, 255, 234, 28, 172]
abbrev dktX10_of_1 : List UInt8 := dkwX10_of_1 ++ []
def dkwX10_of_0 : List UInt8 := [42, 180, 0, 15, 61, 3, 62, 29, 16, 7, 162, 0, 22, 28, 42, 180, 0, 9, 29, 46, 43, 29, 46, 104]
abbrev dktX10_of_0 : List UInt8 := dkwX10_of_0 ++ dktX10_of_1
theorem dksX10_of_0 : cX10_of.data.toList.drop 0 = dktX10_of_0 := by decide +kernel
theorem dksX10_of_1 : cX10_of.data.toList.drop 24 = dktX10_of_1 := dk_seg dksX10_of_0 24 rfl rfl
theorem dX10_of_0 : decode cX10_of 0 = .ok (.aload_n 0, 1) := dk_42 (dk_at dksX10_of_0 0 rfl rfl)
theorem dX10_of_1 : decode cX10_of 1 = .ok (.getfield 15, 3) := dk_180 0 15 (dk_at dksX10_of_0 1 rfl rfl)
theorem dX10_of_4 : decode cX10_of 4 = .ok (.istore_n 2, 1) := dk_61 (dk_at dksX10_of_0 4 rfl rfl)
theorem dX10_of_5 : decode cX10_of 5 = .ok (.iconst 0, 1) := dk_3 (dk_at dksX10_of_0 5 rfl rfl)
theorem dX10_of_6 : decode cX10_of 6 = .ok (.istore_n 3, 1) := dk_62 (dk_at dksX10_of_0 6 rfl rfl)
theorem dX10_of_7 : decode cX10_of 7 = .ok (.iload_n 3, 1) := dk_29 (dk_at dksX10_of_0 7 rfl rfl)
theorem dX10_of_8 : decode cX10_of 8 = .ok (.bipush 7, 2) := dk_16 7 (dk_at dksX10_of_0 8 rfl rfl)
theorem dX10_of_10 : decode cX10_of 10 = .ok (.if_icmp .ge 22, 3) := dk_162 0 22 (dk_at dksX10_of_0 10 rfl rfl)
theorem dX10_of_13 : decode cX10_of 13 = .ok (.iload_n 2, 1) := dk_28 (dk_at dksX10_of_0 13 rfl rfl)
theorem dX10_of_14 : decode cX10_of 14 = .ok (.aload_n 0, 1) := dk_42 (dk_at dksX10_of_0 14 rfl rfl)
theorem dX10_of_15 : decode cX10_of 15 = .ok (.getfield 9, 3) := dk_180 0 9 (dk_at dksX10_of_0 15 rfl rfl)
theorem dX10_of_18 : decode cX10_of 18 = .ok (.iload_n 3, 1) := dk_29 (dk_at dksX10_of_0 18 rfl rfl)
theorem dX10_of_19 : decode cX10_of 19 = .ok (.iaload, 1) := dk_46 (dk_at dksX10_of_0 19 rfl rfl)
theorem dX10_of_20 : decode cX10_of 20 = .ok (.aload_n 1, 1) := dk_43 (dk_at dksX10_of_0 20 rfl rfl)
theorem dX10_of_21 : decode cX10_of 21 = .ok (.iload_n 3, 1) := dk_29 (dk_at dksX10_of_0 21 rfl rfl)
theorem dX10_of_22 : decode cX10_of 22 = .ok (.iaload, 1) := dk_46 (dk_at dksX10_of_0 22 rfl rfl)
theorem dX10_of_23 : decode cX10_of 23 = .ok (.imul, 1) := dk_104 (dk_at dksX10_of_0 23 rfl rfl)
theorem dX10_of_24 : decode cX10_of 24 = .ok (.iadd, 1) := dk_96 (dk_at dksX10_of_1 0 rfl rfl)
theorem dX10_of_25 : decode cX10_of 25 = .ok (.istore_n 2, 1) := dk_61 (dk_at dksX10_of_1 1 rfl rfl)
theorem dX10_of_26 : decode cX10_of 26 = .ok (.iinc 3 1, 3) := dk_132 3 1 (dk_at dksX10_of_1 2 rfl rfl)
theorem dX10_of_29 : decode cX10_of 29 = .ok (.goto (-22), 3) := dk_167 255 234 (dk_at dksX10_of_1 5 rfl rfl)
theorem dX10_of_32 : decode cX10_of 32 = .ok (.iload_n 2, 1) := dk_28 (dk_at dksX10_of_1 8 rfl rfl)
theorem dX10_of_33 : decode cX10_of 33 = .ok (.ireturn, 1) := dk_172 (dk_at dksX10_of_1 9 rfl rfl)
theorem q141 : (Jvm.Cond.initialized "BorrowedLuck$Sum") ∈ lw_all := lw_g (lw_at lw_m1 20 rfl) rfl
theorem q845 : (Jvm.Cond.instantiable "BorrowedLuck$Sum" (2 : Nat)) ∈ lw_all := lw_g (lw_at lw_m4 4 rfl) rfl
theorem q847 : (Jvm.Cond.instanceMethod ({ cls := "BorrowedLuck$Sum", name := "<init>", desc := "()V" } : Jvm.MethodName)) ∈ lw_all := lw_g (lw_at lw_m4 6 rfl) rfl
theorem q848 : (Jvm.Cond.code ({ cls := "BorrowedLuck$Sum", name := "<init>", desc := "()V" } : Jvm.MethodName) prog_11_method_1_code (1 : Nat) (Option.none : Option Jvm.ClassFile.FieldType)) ∈ lw_all := lw_g (lw_at lw_m4 7 rfl) rfl
theorem q849 : (Jvm.Cond.methodLink "BorrowedLuck$Sum" (3 : Nat) ({ cls := "java/lang/Object", name := "<init>", desc := "()V" } : Jvm.MethodName)) ∈ lw_all := lw_g (lw_at lw_m4 8 rfl) rfl
theorem q850 : (Jvm.Cond.fieldLink "BorrowedLuck$Sum" (9 : Nat) "BorrowedLuck$Sum" "times" "[I") ∈ lw_all := lw_g (lw_at lw_m4 9 rfl) rfl
theorem q852 : (Jvm.Cond.fieldLink "BorrowedLuck$Sum" (15 : Nat) "BorrowedLuck$Sum" "number" "I") ∈ lw_all := lw_g (lw_at lw_m4 11 rfl) rfl
theorem q854 : (Jvm.Cond.laysFinal "BorrowedLuck$Sum" "BorrowedLuck$Sum" "times" "[I") ∈ lw_all := lw_g (lw_at lw_m4 13 rfl) rfl
theorem q855 : (Jvm.Cond.soleField "BorrowedLuck$Sum" "times") ∈ lw_all := lw_g (lw_at lw_m4 14 rfl) rfl
theorem q856 : (Jvm.Cond.lays "BorrowedLuck$Sum" "BorrowedLuck$Sum" "number" "I") ∈ lw_all := lw_g (lw_at lw_m4 15 rfl) rfl
theorem q857 : (Jvm.Cond.soleField "BorrowedLuck$Sum" "number") ∈ lw_all := lw_g (lw_at lw_m4 16 rfl) rfl
theorem q858 : (Jvm.Cond.superclass "BorrowedLuck$Sum" "java/lang/Object") ∈ lw_all := lw_g (lw_at lw_m4 17 rfl) rfl
theorem q1089 : (Jvm.Cond.instanceMethod ({ cls := "BorrowedLuck$Sum", name := "of", desc := "([I)I" } : Jvm.MethodName)) ∈ lw_all := lw_g (lw_at lw_m5 8 rfl) rfl
theorem q1090 : (Jvm.Cond.selects "BorrowedLuck$Sum" ({ cls := "BorrowedLuck$Sum", name := "of", desc := "([I)I" } : Jvm.MethodName) ({ cls := "BorrowedLuck$Sum", name := "of", desc := "([I)I" } : Jvm.MethodName)) ∈ lw_all := lw_g (lw_at lw_m5 9 rfl) rfl
theorem q1091 : (Jvm.Cond.code ({ cls := "BorrowedLuck$Sum", name := "of", desc := "([I)I" } : Jvm.MethodName) prog_11_method_2_code (4 : Nat) (Option.some Jvm.ClassFile.FieldType.int)) ∈ lw_all := lw_g (lw_at lw_m5 10 rfl) rfl
theorem q2101 : (Jvm.Cond.castable "BorrowedLuck$Sum" "java/lang/Object") ∈ lw_tbl := lw_at lw_m9 60 rfl
theorem in_X10 : ∀ w ∈ wsX100, w ∈ lw_all := lw_in wsX100 [854, 856] (by decide +kernel) (by decide +kernel)

/-! BorrowedLuck$Less -/
set_option maxRecDepth 100000
def RX11 : String := "BorrowedLuck$Less"
def TX11 : u_T := fun k => match k with
  | 0 => ("BorrowedLuck$Less", "low", "LBorrowedLuck$Sum;", true)
  | _ => ("BorrowedLuck$Less", "high", "LBorrowedLuck$Sum;", true)
def tyX11 : Nat → FieldType := fun k => match k with
  | 0 => .object "BorrowedLuck$Sum"
  | _ => .object "BorrowedLuck$Sum"
abbrev wsX110 : List Cond := u_ws RX11 TX11 2
theorem nmX11 : ∀ a, a < 2 → ∀ b, b < 2 → a ≠ b → (TX11 a).2.1 ≠ (TX11 b).2.1 := by decide +kernel
theorem tyX11_ok : ∀ k, k < 2 → parseFieldDescriptor (TX11 k).2.2.1 = some (tyX11 k) := by decide +kernel
abbrev cX11_init : ByteArray := prog_5_method_1_code
def yX11_init : MethodName := ⟨RX11, "<init>", "(LBorrowedLuck$Sum;LBorrowedLuck$Sum;)V"⟩
def dkwX11_init_0 : List UInt8 := [42, 183, 0, 1, 42, 43, 181, 0, 7, 42, 44, 181, 0, 13, 177]
abbrev dktX11_init_0 : List UInt8 := dkwX11_init_0 ++ []
theorem dksX11_init_0 : cX11_init.data.toList.drop 0 = dktX11_init_0 := by decide +kernel
theorem dX11_init_0 : decode cX11_init 0 = .ok (.aload_n 0, 1) := dk_42 (dk_at dksX11_init_0 0 rfl rfl)
theorem dX11_init_1 : decode cX11_init 1 = .ok (.invokespecial 1, 3) := dk_183 0 1 (dk_at dksX11_init_0 1 rfl rfl)
theorem dX11_init_4 : decode cX11_init 4 = .ok (.aload_n 0, 1) := dk_42 (dk_at dksX11_init_0 4 rfl rfl)
theorem dX11_init_5 : decode cX11_init 5 = .ok (.aload_n 1, 1) := dk_43 (dk_at dksX11_init_0 5 rfl rfl)
theorem dX11_init_6 : decode cX11_init 6 = .ok (.putfield 7, 3) := dk_181 0 7 (dk_at dksX11_init_0 6 rfl rfl)
theorem dX11_init_9 : decode cX11_init 9 = .ok (.aload_n 0, 1) := dk_42 (dk_at dksX11_init_0 9 rfl rfl)
theorem dX11_init_10 : decode cX11_init 10 = .ok (.aload_n 2, 1) := dk_44 (dk_at dksX11_init_0 10 rfl rfl)
theorem dX11_init_11 : decode cX11_init 11 = .ok (.putfield 13, 3) := dk_181 0 13 (dk_at dksX11_init_0 11 rfl rfl)
theorem dX11_init_14 : decode cX11_init 14 = .ok (.return_, 1) := dk_177 (dk_at dksX11_init_0 14 rfl rfl)
abbrev cX11_holds : ByteArray := prog_5_method_2_code
def yX11_holds : MethodName := ⟨RX11, "holds", "([I)Z"⟩
def dkwX11_holds_1 : List UInt8 := [172]
abbrev dktX11_holds_1 : List UInt8 := dkwX11_holds_1 ++ []
def dkwX11_holds_0 : List UInt8 := [42, 180, 0, 7, 43, 182, 0, 16, 42, 180, 0, 13, 43, 182, 0, 16, 162, 0, 7, 4, 167, 0, 4, 3]
abbrev dktX11_holds_0 : List UInt8 := dkwX11_holds_0 ++ dktX11_holds_1
theorem dksX11_holds_0 : cX11_holds.data.toList.drop 0 = dktX11_holds_0 := by decide +kernel
theorem dksX11_holds_1 : cX11_holds.data.toList.drop 24 = dktX11_holds_1 := dk_seg dksX11_holds_0 24 rfl rfl
theorem dX11_holds_0 : decode cX11_holds 0 = .ok (.aload_n 0, 1) := dk_42 (dk_at dksX11_holds_0 0 rfl rfl)
theorem dX11_holds_1 : decode cX11_holds 1 = .ok (.getfield 7, 3) := dk_180 0 7 (dk_at dksX11_holds_0 1 rfl rfl)
theorem dX11_holds_4 : decode cX11_holds 4 = .ok (.aload_n 1, 1) := dk_43 (dk_at dksX11_holds_0 4 rfl rfl)
theorem dX11_holds_5 : decode cX11_holds 5 = .ok (.invokevirtual 16, 3) := dk_182 0 16 (dk_at dksX11_holds_0 5 rfl rfl)
theorem dX11_holds_8 : decode cX11_holds 8 = .ok (.aload_n 0, 1) := dk_42 (dk_at dksX11_holds_0 8 rfl rfl)
theorem dX11_holds_9 : decode cX11_holds 9 = .ok (.getfield 13, 3) := dk_180 0 13 (dk_at dksX11_holds_0 9 rfl rfl)
theorem dX11_holds_12 : decode cX11_holds 12 = .ok (.aload_n 1, 1) := dk_43 (dk_at dksX11_holds_0 12 rfl rfl)
theorem dX11_holds_13 : decode cX11_holds 13 = .ok (.invokevirtual 16, 3) := dk_182 0 16 (dk_at dksX11_holds_0 13 rfl rfl)
theorem dX11_holds_16 : decode cX11_holds 16 = .ok (.if_icmp .ge 7, 3) := dk_162 0 7 (dk_at dksX11_holds_0 16 rfl rfl)
theorem dX11_holds_19 : decode cX11_holds 19 = .ok (.iconst 1, 1) := dk_4 (dk_at dksX11_holds_0 19 rfl rfl)
theorem dX11_holds_20 : decode cX11_holds 20 = .ok (.goto 4, 3) := dk_167 0 4 (dk_at dksX11_holds_0 20 rfl rfl)
theorem dX11_holds_23 : decode cX11_holds 23 = .ok (.iconst 0, 1) := dk_3 (dk_at dksX11_holds_0 23 rfl rfl)
theorem dX11_holds_24 : decode cX11_holds 24 = .ok (.ireturn, 1) := dk_172 (dk_at dksX11_holds_1 0 rfl rfl)
theorem q142 : (Jvm.Cond.initialized "BorrowedLuck$Less") ∈ lw_all := lw_g (lw_at lw_m1 21 rfl) rfl
theorem q868 : (Jvm.Cond.instantiable "BorrowedLuck$Less" (2 : Nat)) ∈ lw_all := lw_g (lw_at lw_m4 27 rfl) rfl
theorem q870 : (Jvm.Cond.instanceMethod ({ cls := "BorrowedLuck$Less", name := "<init>", desc := "(LBorrowedLuck$Sum;LBorrowedLuck$Sum;)V" } : Jvm.MethodName)) ∈ lw_all := lw_g (lw_at lw_m4 29 rfl) rfl
theorem q871 : (Jvm.Cond.code ({ cls := "BorrowedLuck$Less", name := "<init>", desc := "(LBorrowedLuck$Sum;LBorrowedLuck$Sum;)V" } : Jvm.MethodName) prog_5_method_1_code (3 : Nat) (Option.none : Option Jvm.ClassFile.FieldType)) ∈ lw_all := lw_g (lw_at lw_m4 30 rfl) rfl
theorem q872 : (Jvm.Cond.methodLink "BorrowedLuck$Less" (1 : Nat) ({ cls := "java/lang/Object", name := "<init>", desc := "()V" } : Jvm.MethodName)) ∈ lw_all := lw_g (lw_at lw_m4 31 rfl) rfl
theorem q873 : (Jvm.Cond.fieldLink "BorrowedLuck$Less" (7 : Nat) "BorrowedLuck$Less" "low" "LBorrowedLuck$Sum;") ∈ lw_all := lw_g (lw_at lw_m4 32 rfl) rfl
theorem q874 : (Jvm.Cond.fieldLink "BorrowedLuck$Less" (13 : Nat) "BorrowedLuck$Less" "high" "LBorrowedLuck$Sum;") ∈ lw_all := lw_g (lw_at lw_m4 33 rfl) rfl
theorem q875 : (Jvm.Cond.laysFinal "BorrowedLuck$Less" "BorrowedLuck$Less" "low" "LBorrowedLuck$Sum;") ∈ lw_all := lw_g (lw_at lw_m4 34 rfl) rfl
theorem q876 : (Jvm.Cond.soleField "BorrowedLuck$Less" "low") ∈ lw_all := lw_g (lw_at lw_m4 35 rfl) rfl
theorem q877 : (Jvm.Cond.laysFinal "BorrowedLuck$Less" "BorrowedLuck$Less" "high" "LBorrowedLuck$Sum;") ∈ lw_all := lw_g (lw_at lw_m4 36 rfl) rfl
theorem q878 : (Jvm.Cond.soleField "BorrowedLuck$Less" "high") ∈ lw_all := lw_g (lw_at lw_m4 37 rfl) rfl
theorem q879 : (Jvm.Cond.superclass "BorrowedLuck$Less" "java/lang/Object") ∈ lw_all := lw_g (lw_at lw_m4 38 rfl) rfl
theorem q1082 : (Jvm.Cond.castable "BorrowedLuck$Less" "BorrowedLuck$Cond") ∈ lw_tbl := lw_at lw_m5 1 rfl
theorem q1083 : (Jvm.Cond.selects "BorrowedLuck$Less" ({ cls := "BorrowedLuck$Cond", name := "holds", desc := "([I)Z" } : Jvm.MethodName) ({ cls := "BorrowedLuck$Less", name := "holds", desc := "([I)Z" } : Jvm.MethodName)) ∈ lw_all := lw_g (lw_at lw_m5 2 rfl) rfl
theorem q1084 : (Jvm.Cond.unhidden "BorrowedLuck$Less" "holds" "([I)Z") ∈ lw_tbl := lw_at lw_m5 3 rfl
theorem q1085 : (Jvm.Cond.instanceMethod ({ cls := "BorrowedLuck$Less", name := "holds", desc := "([I)Z" } : Jvm.MethodName)) ∈ lw_all := lw_g (lw_at lw_m5 4 rfl) rfl
theorem q1086 : (Jvm.Cond.publicMethod ({ cls := "BorrowedLuck$Less", name := "holds", desc := "([I)Z" } : Jvm.MethodName)) ∈ lw_tbl := lw_at lw_m5 5 rfl
theorem q1087 : (Jvm.Cond.code ({ cls := "BorrowedLuck$Less", name := "holds", desc := "([I)Z" } : Jvm.MethodName) prog_5_method_2_code (2 : Nat) (Option.some Jvm.ClassFile.FieldType.boolean)) ∈ lw_all := lw_g (lw_at lw_m5 6 rfl) rfl
theorem q1088 : (Jvm.Cond.methodLink "BorrowedLuck$Less" (16 : Nat) ({ cls := "BorrowedLuck$Sum", name := "of", desc := "([I)I" } : Jvm.MethodName)) ∈ lw_all := lw_g (lw_at lw_m5 7 rfl) rfl
theorem q2102 : (Jvm.Cond.castable "BorrowedLuck$Less" "java/lang/Object") ∈ lw_tbl := lw_at lw_m9 61 rfl
theorem in_X11 : ∀ w ∈ wsX110, w ∈ lw_all := lw_in wsX110 [875, 877] (by decide +kernel) (by decide +kernel)

/-! BorrowedLuck$Not -/
set_option maxRecDepth 100000
def RX12 : String := "BorrowedLuck$Not"
def TX12 : u_T := fun k => match k with
  | _ => ("BorrowedLuck$Not", "of", "LBorrowedLuck$Cond;", true)
def tyX12 : Nat → FieldType := fun k => match k with
  | _ => .object "BorrowedLuck$Cond"
abbrev wsX120 : List Cond := u_ws RX12 TX12 1
theorem nmX12 : ∀ a, a < 1 → ∀ b, b < 1 → a ≠ b → (TX12 a).2.1 ≠ (TX12 b).2.1 := by decide +kernel
theorem tyX12_ok : ∀ k, k < 1 → parseFieldDescriptor (TX12 k).2.2.1 = some (tyX12 k) := by decide +kernel
abbrev cX12_init : ByteArray := prog_7_method_1_code
def yX12_init : MethodName := ⟨RX12, "<init>", "(LBorrowedLuck$Cond;)V"⟩
def dkwX12_init_0 : List UInt8 := [42, 183, 0, 1, 42, 43, 181, 0, 7, 177]
abbrev dktX12_init_0 : List UInt8 := dkwX12_init_0 ++ []
theorem dksX12_init_0 : cX12_init.data.toList.drop 0 = dktX12_init_0 := by decide +kernel
theorem dX12_init_0 : decode cX12_init 0 = .ok (.aload_n 0, 1) := dk_42 (dk_at dksX12_init_0 0 rfl rfl)
theorem dX12_init_1 : decode cX12_init 1 = .ok (.invokespecial 1, 3) := dk_183 0 1 (dk_at dksX12_init_0 1 rfl rfl)
theorem dX12_init_4 : decode cX12_init 4 = .ok (.aload_n 0, 1) := dk_42 (dk_at dksX12_init_0 4 rfl rfl)
theorem dX12_init_5 : decode cX12_init 5 = .ok (.aload_n 1, 1) := dk_43 (dk_at dksX12_init_0 5 rfl rfl)
theorem dX12_init_6 : decode cX12_init 6 = .ok (.putfield 7, 3) := dk_181 0 7 (dk_at dksX12_init_0 6 rfl rfl)
theorem dX12_init_9 : decode cX12_init 9 = .ok (.return_, 1) := dk_177 (dk_at dksX12_init_0 9 rfl rfl)
abbrev cX12_holds : ByteArray := prog_7_method_2_code
def yX12_holds : MethodName := ⟨RX12, "holds", "([I)Z"⟩
def dkwX12_holds_0 : List UInt8 := [42, 180, 0, 7, 43, 185, 0, 13, 2, 0, 154, 0, 7, 4, 167, 0, 4, 3, 172]
abbrev dktX12_holds_0 : List UInt8 := dkwX12_holds_0 ++ []
theorem dksX12_holds_0 : cX12_holds.data.toList.drop 0 = dktX12_holds_0 := by decide +kernel
theorem dX12_holds_0 : decode cX12_holds 0 = .ok (.aload_n 0, 1) := dk_42 (dk_at dksX12_holds_0 0 rfl rfl)
theorem dX12_holds_1 : decode cX12_holds 1 = .ok (.getfield 7, 3) := dk_180 0 7 (dk_at dksX12_holds_0 1 rfl rfl)
theorem dX12_holds_4 : decode cX12_holds 4 = .ok (.aload_n 1, 1) := dk_43 (dk_at dksX12_holds_0 4 rfl rfl)
theorem dX12_holds_5 : decode cX12_holds 5 = .ok (.invokeinterface 13 2, 5) := by decide +kernel
theorem dX12_holds_10 : decode cX12_holds 10 = .ok (.ifCond .ne 7, 3) := dk_154 0 7 (dk_at dksX12_holds_0 10 rfl rfl)
theorem dX12_holds_13 : decode cX12_holds 13 = .ok (.iconst 1, 1) := dk_4 (dk_at dksX12_holds_0 13 rfl rfl)
theorem dX12_holds_14 : decode cX12_holds 14 = .ok (.goto 4, 3) := dk_167 0 4 (dk_at dksX12_holds_0 14 rfl rfl)
theorem dX12_holds_17 : decode cX12_holds 17 = .ok (.iconst 0, 1) := dk_3 (dk_at dksX12_holds_0 17 rfl rfl)
theorem dX12_holds_18 : decode cX12_holds 18 = .ok (.ireturn, 1) := dk_172 (dk_at dksX12_holds_0 18 rfl rfl)
theorem q143 : (Jvm.Cond.initialized "BorrowedLuck$Not") ∈ lw_all := lw_g (lw_at lw_m1 22 rfl) rfl
theorem q881 : (Jvm.Cond.instantiable "BorrowedLuck$Not" (1 : Nat)) ∈ lw_all := lw_g (lw_at lw_m4 40 rfl) rfl
theorem q883 : (Jvm.Cond.instanceMethod ({ cls := "BorrowedLuck$Not", name := "<init>", desc := "(LBorrowedLuck$Cond;)V" } : Jvm.MethodName)) ∈ lw_all := lw_g (lw_at lw_m4 42 rfl) rfl
theorem q884 : (Jvm.Cond.code ({ cls := "BorrowedLuck$Not", name := "<init>", desc := "(LBorrowedLuck$Cond;)V" } : Jvm.MethodName) prog_7_method_1_code (2 : Nat) (Option.none : Option Jvm.ClassFile.FieldType)) ∈ lw_all := lw_g (lw_at lw_m4 43 rfl) rfl
theorem q885 : (Jvm.Cond.methodLink "BorrowedLuck$Not" (1 : Nat) ({ cls := "java/lang/Object", name := "<init>", desc := "()V" } : Jvm.MethodName)) ∈ lw_all := lw_g (lw_at lw_m4 44 rfl) rfl
theorem q886 : (Jvm.Cond.fieldLink "BorrowedLuck$Not" (7 : Nat) "BorrowedLuck$Not" "of" "LBorrowedLuck$Cond;") ∈ lw_all := lw_g (lw_at lw_m4 45 rfl) rfl
theorem q887 : (Jvm.Cond.laysFinal "BorrowedLuck$Not" "BorrowedLuck$Not" "of" "LBorrowedLuck$Cond;") ∈ lw_all := lw_g (lw_at lw_m4 46 rfl) rfl
theorem q888 : (Jvm.Cond.soleField "BorrowedLuck$Not" "of") ∈ lw_all := lw_g (lw_at lw_m4 47 rfl) rfl
theorem q889 : (Jvm.Cond.superclass "BorrowedLuck$Not" "java/lang/Object") ∈ lw_all := lw_g (lw_at lw_m4 48 rfl) rfl
theorem q1092 : (Jvm.Cond.castable "BorrowedLuck$Not" "BorrowedLuck$Cond") ∈ lw_tbl := lw_at lw_m5 11 rfl
theorem q1093 : (Jvm.Cond.selects "BorrowedLuck$Not" ({ cls := "BorrowedLuck$Cond", name := "holds", desc := "([I)Z" } : Jvm.MethodName) ({ cls := "BorrowedLuck$Not", name := "holds", desc := "([I)Z" } : Jvm.MethodName)) ∈ lw_all := lw_g (lw_at lw_m5 12 rfl) rfl
theorem q1094 : (Jvm.Cond.unhidden "BorrowedLuck$Not" "holds" "([I)Z") ∈ lw_tbl := lw_at lw_m5 13 rfl
theorem q1095 : (Jvm.Cond.instanceMethod ({ cls := "BorrowedLuck$Not", name := "holds", desc := "([I)Z" } : Jvm.MethodName)) ∈ lw_all := lw_g (lw_at lw_m5 14 rfl) rfl
theorem q1096 : (Jvm.Cond.publicMethod ({ cls := "BorrowedLuck$Not", name := "holds", desc := "([I)Z" } : Jvm.MethodName)) ∈ lw_tbl := lw_at lw_m5 15 rfl
theorem q1097 : (Jvm.Cond.code ({ cls := "BorrowedLuck$Not", name := "holds", desc := "([I)Z" } : Jvm.MethodName) prog_7_method_2_code (2 : Nat) (Option.some Jvm.ClassFile.FieldType.boolean)) ∈ lw_all := lw_g (lw_at lw_m5 16 rfl) rfl
theorem q1098 : (Jvm.Cond.interfaceEntry "BorrowedLuck$Not" (13 : Nat)) ∈ lw_tbl := lw_at lw_m5 17 rfl
theorem q1099 : (Jvm.Cond.methodLink "BorrowedLuck$Not" (13 : Nat) ({ cls := "BorrowedLuck$Cond", name := "holds", desc := "([I)Z" } : Jvm.MethodName)) ∈ lw_all := lw_g (lw_at lw_m5 18 rfl) rfl
theorem q2103 : (Jvm.Cond.castable "BorrowedLuck$Not" "java/lang/Object") ∈ lw_tbl := lw_at lw_m9 62 rfl
theorem in_X12 : ∀ w ∈ wsX120, w ∈ lw_all := lw_in wsX120 [887] (by decide +kernel) (by decide +kernel)

/-! BorrowedLuck$Line -/
set_option maxRecDepth 100000
def RX13 : String := "BorrowedLuck$Line"
abbrev cX13_init : ByteArray := prog_6_method_1_code
def yX13_init : MethodName := ⟨RX13, "<init>", "(LBorrowedLuck$Cond;)V"⟩
def dkwX13_init_0 : List UInt8 := [42, 183, 0, 1, 42, 43, 181, 0, 7, 177]
abbrev dktX13_init_0 : List UInt8 := dkwX13_init_0 ++ []
theorem dksX13_init_0 : cX13_init.data.toList.drop 0 = dktX13_init_0 := by decide +kernel
theorem dX13_init_0 : decode cX13_init 0 = .ok (.aload_n 0, 1) := dk_42 (dk_at dksX13_init_0 0 rfl rfl)
theorem dX13_init_1 : decode cX13_init 1 = .ok (.invokespecial 1, 3) := dk_183 0 1 (dk_at dksX13_init_0 1 rfl rfl)
theorem dX13_init_4 : decode cX13_init 4 = .ok (.aload_n 0, 1) := dk_42 (dk_at dksX13_init_0 4 rfl rfl)
theorem dX13_init_5 : decode cX13_init 5 = .ok (.aload_n 1, 1) := dk_43 (dk_at dksX13_init_0 5 rfl rfl)
theorem dX13_init_6 : decode cX13_init 6 = .ok (.putfield 7, 3) := dk_181 0 7 (dk_at dksX13_init_0 6 rfl rfl)
theorem dX13_init_9 : decode cX13_init 9 = .ok (.return_, 1) := dk_177 (dk_at dksX13_init_0 9 rfl rfl)
abbrev cX13_is : ByteArray := prog_6_method_2_code
def yX13_is : MethodName := ⟨RX13, "is", "([I)Z"⟩
def dkwX13_is_1 : List UInt8 := [3, 172]
abbrev dktX13_is_1 : List UInt8 := dkwX13_is_1 ++ []
def dkwX13_is_0 : List UInt8 := [42, 180, 0, 7, 198, 0, 16, 42, 180, 0, 7, 43, 185, 0, 13, 2, 0, 153, 0, 7, 4, 167, 0, 4]
abbrev dktX13_is_0 : List UInt8 := dkwX13_is_0 ++ dktX13_is_1
theorem dksX13_is_0 : cX13_is.data.toList.drop 0 = dktX13_is_0 := by decide +kernel
theorem dksX13_is_1 : cX13_is.data.toList.drop 24 = dktX13_is_1 := dk_seg dksX13_is_0 24 rfl rfl
theorem dX13_is_0 : decode cX13_is 0 = .ok (.aload_n 0, 1) := dk_42 (dk_at dksX13_is_0 0 rfl rfl)
theorem dX13_is_1 : decode cX13_is 1 = .ok (.getfield 7, 3) := dk_180 0 7 (dk_at dksX13_is_0 1 rfl rfl)
theorem dX13_is_4 : decode cX13_is 4 = .ok (.ifnull 16, 3) := dk_198 0 16 (dk_at dksX13_is_0 4 rfl rfl)
theorem dX13_is_7 : decode cX13_is 7 = .ok (.aload_n 0, 1) := dk_42 (dk_at dksX13_is_0 7 rfl rfl)
theorem dX13_is_8 : decode cX13_is 8 = .ok (.getfield 7, 3) := dk_180 0 7 (dk_at dksX13_is_0 8 rfl rfl)
theorem dX13_is_11 : decode cX13_is 11 = .ok (.aload_n 1, 1) := dk_43 (dk_at dksX13_is_0 11 rfl rfl)
theorem dX13_is_12 : decode cX13_is 12 = .ok (.invokeinterface 13 2, 5) := by decide +kernel
theorem dX13_is_17 : decode cX13_is 17 = .ok (.ifCond .eq 7, 3) := dk_153 0 7 (dk_at dksX13_is_0 17 rfl rfl)
theorem dX13_is_20 : decode cX13_is 20 = .ok (.iconst 1, 1) := dk_4 (dk_at dksX13_is_0 20 rfl rfl)
theorem dX13_is_21 : decode cX13_is 21 = .ok (.goto 4, 3) := dk_167 0 4 (dk_at dksX13_is_0 21 rfl rfl)
theorem dX13_is_24 : decode cX13_is 24 = .ok (.iconst 0, 1) := dk_3 (dk_at dksX13_is_1 0 rfl rfl)
theorem dX13_is_25 : decode cX13_is 25 = .ok (.ireturn, 1) := dk_172 (dk_at dksX13_is_1 1 rfl rfl)
abbrev cX13_flows : ByteArray := prog_6_method_3_code
def yX13_flows : MethodName := ⟨RX13, "flows", "([I)I"⟩
theorem dX13_flows_0 : decode cX13_flows 0 = .ok (.iconst 0, 1) := by decide +kernel
theorem dX13_flows_1 : decode cX13_flows 1 = .ok (.ireturn, 1) := by decide +kernel
abbrev cX13_wears : ByteArray := prog_6_method_4_code
def yX13_wears : MethodName := ⟨RX13, "wears", "([I)I"⟩
theorem dX13_wears_0 : decode cX13_wears 0 = .ok (.iconst 0, 1) := by decide +kernel
theorem dX13_wears_1 : decode cX13_wears 1 = .ok (.ireturn, 1) := by decide +kernel
abbrev cX13_sticks : ByteArray := prog_6_method_5_code
def yX13_sticks : MethodName := ⟨RX13, "sticks", "([I)Z"⟩
theorem dX13_sticks_0 : decode cX13_sticks 0 = .ok (.iconst 0, 1) := by decide +kernel
theorem dX13_sticks_1 : decode cX13_sticks 1 = .ok (.ireturn, 1) := by decide +kernel
theorem q144 : (Jvm.Cond.initialized "BorrowedLuck$Line") ∈ lw_all := lw_g (lw_at lw_m1 23 rfl) rfl
theorem q913 : (Jvm.Cond.instanceMethod ({ cls := "BorrowedLuck$Line", name := "<init>", desc := "(LBorrowedLuck$Cond;)V" } : Jvm.MethodName)) ∈ lw_all := lw_g (lw_at lw_m4 72 rfl) rfl
theorem q914 : (Jvm.Cond.code ({ cls := "BorrowedLuck$Line", name := "<init>", desc := "(LBorrowedLuck$Cond;)V" } : Jvm.MethodName) prog_6_method_1_code (2 : Nat) (Option.none : Option Jvm.ClassFile.FieldType)) ∈ lw_all := lw_g (lw_at lw_m4 73 rfl) rfl
theorem q915 : (Jvm.Cond.methodLink "BorrowedLuck$Line" (1 : Nat) ({ cls := "java/lang/Object", name := "<init>", desc := "()V" } : Jvm.MethodName)) ∈ lw_all := lw_g (lw_at lw_m4 74 rfl) rfl
theorem q917 : (Jvm.Cond.fieldLink "BorrowedLuck$Line" (7 : Nat) "BorrowedLuck$Line" "cond" "LBorrowedLuck$Cond;") ∈ lw_all := lw_g (lw_at lw_m4 76 rfl) rfl
theorem q921 : (Jvm.Cond.soleField "BorrowedLuck$Line" "cond") ∈ lw_all := lw_g (lw_at lw_m4 80 rfl) rfl
theorem q1059 : (Jvm.Cond.instanceMethod ({ cls := "BorrowedLuck$Line", name := "flows", desc := "([I)I" } : Jvm.MethodName)) ∈ lw_all := lw_g (lw_at lw_m4 218 rfl) rfl
theorem q1060 : (Jvm.Cond.sameMethod "BorrowedLuck$Line" "BorrowedLuck$Line" "flows" "([I)I") ∈ lw_all := lw_g (lw_at lw_m4 219 rfl) rfl
theorem q1066 : (Jvm.Cond.declares ({ cls := "BorrowedLuck$Line", name := "is", desc := "([I)Z" } : Jvm.MethodName)) ∈ lw_tbl := lw_at lw_m4 225 rfl
theorem q1068 : (Jvm.Cond.instanceMethod ({ cls := "BorrowedLuck$Line", name := "is", desc := "([I)Z" } : Jvm.MethodName)) ∈ lw_all := lw_g (lw_at lw_m4 227 rfl) rfl
theorem q1069 : (Jvm.Cond.code ({ cls := "BorrowedLuck$Line", name := "is", desc := "([I)Z" } : Jvm.MethodName) prog_6_method_2_code (2 : Nat) (Option.some Jvm.ClassFile.FieldType.boolean)) ∈ lw_all := lw_g (lw_at lw_m4 228 rfl) rfl
theorem q1070 : (Jvm.Cond.interfaceEntry "BorrowedLuck$Line" (13 : Nat)) ∈ lw_tbl := lw_at lw_m4 229 rfl
theorem q1071 : (Jvm.Cond.methodLink "BorrowedLuck$Line" (13 : Nat) ({ cls := "BorrowedLuck$Cond", name := "holds", desc := "([I)Z" } : Jvm.MethodName)) ∈ lw_all := lw_g (lw_at lw_m4 230 rfl) rfl
theorem q1108 : (Jvm.Cond.code ({ cls := "BorrowedLuck$Line", name := "flows", desc := "([I)I" } : Jvm.MethodName) prog_6_method_3_code (2 : Nat) (Option.some Jvm.ClassFile.FieldType.int)) ∈ lw_all := lw_g (lw_at lw_m5 27 rfl) rfl
theorem q1173 : (Jvm.Cond.instanceMethod ({ cls := "BorrowedLuck$Line", name := "wears", desc := "([I)I" } : Jvm.MethodName)) ∈ lw_all := lw_g (lw_at lw_m5 92 rfl) rfl
theorem q1174 : (Jvm.Cond.sameMethod "BorrowedLuck$Line" "BorrowedLuck$Line" "wears" "([I)I") ∈ lw_all := lw_g (lw_at lw_m5 93 rfl) rfl
theorem q1183 : (Jvm.Cond.code ({ cls := "BorrowedLuck$Line", name := "wears", desc := "([I)I" } : Jvm.MethodName) prog_6_method_4_code (2 : Nat) (Option.some Jvm.ClassFile.FieldType.int)) ∈ lw_all := lw_g (lw_at lw_m5 102 rfl) rfl
theorem q1189 : (Jvm.Cond.instanceMethod ({ cls := "BorrowedLuck$Line", name := "sticks", desc := "([I)Z" } : Jvm.MethodName)) ∈ lw_all := lw_g (lw_at lw_m5 108 rfl) rfl
theorem q1190 : (Jvm.Cond.sameMethod "BorrowedLuck$Line" "BorrowedLuck$Line" "sticks" "([I)Z") ∈ lw_all := lw_g (lw_at lw_m5 109 rfl) rfl
theorem q1199 : (Jvm.Cond.code ({ cls := "BorrowedLuck$Line", name := "sticks", desc := "([I)Z" } : Jvm.MethodName) prog_6_method_5_code (2 : Nat) (Option.some Jvm.ClassFile.FieldType.boolean)) ∈ lw_all := lw_g (lw_at lw_m5 118 rfl) rfl

/-! BorrowedLuck$Flows -/
set_option maxRecDepth 100000
def RX14 : String := "BorrowedLuck$Flows"
def TX14 : u_T := fun k => match k with
  | 0 => ("BorrowedLuck$Line", "cond", "LBorrowedLuck$Cond;", true)
  | _ => ("BorrowedLuck$Flows", "n", "I", true)
def tyX14 : Nat → FieldType := fun k => match k with
  | 0 => .object "BorrowedLuck$Cond"
  | _ => .int
abbrev wsX140 : List Cond := u_ws RX14 TX14 2
theorem nmX14 : ∀ a, a < 2 → ∀ b, b < 2 → a ≠ b → (TX14 a).2.1 ≠ (TX14 b).2.1 := by decide +kernel
theorem tyX14_ok : ∀ k, k < 2 → parseFieldDescriptor (TX14 k).2.2.1 = some (tyX14 k) := by decide +kernel
abbrev cX14_init : ByteArray := prog_4_method_1_code
def yX14_init : MethodName := ⟨RX14, "<init>", "(ILBorrowedLuck$Cond;)V"⟩
def dkwX14_init_0 : List UInt8 := [42, 44, 183, 0, 1, 42, 27, 181, 0, 7, 177]
abbrev dktX14_init_0 : List UInt8 := dkwX14_init_0 ++ []
theorem dksX14_init_0 : cX14_init.data.toList.drop 0 = dktX14_init_0 := by decide +kernel
theorem dX14_init_0 : decode cX14_init 0 = .ok (.aload_n 0, 1) := dk_42 (dk_at dksX14_init_0 0 rfl rfl)
theorem dX14_init_1 : decode cX14_init 1 = .ok (.aload_n 2, 1) := dk_44 (dk_at dksX14_init_0 1 rfl rfl)
theorem dX14_init_2 : decode cX14_init 2 = .ok (.invokespecial 1, 3) := dk_183 0 1 (dk_at dksX14_init_0 2 rfl rfl)
theorem dX14_init_5 : decode cX14_init 5 = .ok (.aload_n 0, 1) := dk_42 (dk_at dksX14_init_0 5 rfl rfl)
theorem dX14_init_6 : decode cX14_init 6 = .ok (.iload_n 1, 1) := dk_27 (dk_at dksX14_init_0 6 rfl rfl)
theorem dX14_init_7 : decode cX14_init 7 = .ok (.putfield 7, 3) := dk_181 0 7 (dk_at dksX14_init_0 7 rfl rfl)
theorem dX14_init_10 : decode cX14_init 10 = .ok (.return_, 1) := dk_177 (dk_at dksX14_init_0 10 rfl rfl)
abbrev cX14_flows : ByteArray := prog_4_method_2_code
def yX14_flows : MethodName := ⟨RX14, "flows", "([I)I"⟩
def dkwX14_flows_0 : List UInt8 := [42, 43, 182, 0, 13, 153, 0, 10, 42, 180, 0, 7, 167, 0, 4, 3, 172]
abbrev dktX14_flows_0 : List UInt8 := dkwX14_flows_0 ++ []
theorem dksX14_flows_0 : cX14_flows.data.toList.drop 0 = dktX14_flows_0 := by decide +kernel
theorem dX14_flows_0 : decode cX14_flows 0 = .ok (.aload_n 0, 1) := dk_42 (dk_at dksX14_flows_0 0 rfl rfl)
theorem dX14_flows_1 : decode cX14_flows 1 = .ok (.aload_n 1, 1) := dk_43 (dk_at dksX14_flows_0 1 rfl rfl)
theorem dX14_flows_2 : decode cX14_flows 2 = .ok (.invokevirtual 13, 3) := dk_182 0 13 (dk_at dksX14_flows_0 2 rfl rfl)
theorem dX14_flows_5 : decode cX14_flows 5 = .ok (.ifCond .eq 10, 3) := dk_153 0 10 (dk_at dksX14_flows_0 5 rfl rfl)
theorem dX14_flows_8 : decode cX14_flows 8 = .ok (.aload_n 0, 1) := dk_42 (dk_at dksX14_flows_0 8 rfl rfl)
theorem dX14_flows_9 : decode cX14_flows 9 = .ok (.getfield 7, 3) := dk_180 0 7 (dk_at dksX14_flows_0 9 rfl rfl)
theorem dX14_flows_12 : decode cX14_flows 12 = .ok (.goto 4, 3) := dk_167 0 4 (dk_at dksX14_flows_0 12 rfl rfl)
theorem dX14_flows_15 : decode cX14_flows 15 = .ok (.iconst 0, 1) := dk_3 (dk_at dksX14_flows_0 15 rfl rfl)
theorem dX14_flows_16 : decode cX14_flows 16 = .ok (.ireturn, 1) := dk_172 (dk_at dksX14_flows_0 16 rfl rfl)
theorem q145 : (Jvm.Cond.initialized "BorrowedLuck$Flows") ∈ lw_all := lw_g (lw_at lw_m1 24 rfl) rfl
theorem q908 : (Jvm.Cond.instantiable "BorrowedLuck$Flows" (2 : Nat)) ∈ lw_all := lw_g (lw_at lw_m4 67 rfl) rfl
theorem q910 : (Jvm.Cond.instanceMethod ({ cls := "BorrowedLuck$Flows", name := "<init>", desc := "(ILBorrowedLuck$Cond;)V" } : Jvm.MethodName)) ∈ lw_all := lw_g (lw_at lw_m4 69 rfl) rfl
theorem q911 : (Jvm.Cond.code ({ cls := "BorrowedLuck$Flows", name := "<init>", desc := "(ILBorrowedLuck$Cond;)V" } : Jvm.MethodName) prog_4_method_1_code (3 : Nat) (Option.none : Option Jvm.ClassFile.FieldType)) ∈ lw_all := lw_g (lw_at lw_m4 70 rfl) rfl
theorem q912 : (Jvm.Cond.methodLink "BorrowedLuck$Flows" (1 : Nat) ({ cls := "BorrowedLuck$Line", name := "<init>", desc := "(LBorrowedLuck$Cond;)V" } : Jvm.MethodName)) ∈ lw_all := lw_g (lw_at lw_m4 71 rfl) rfl
theorem q916 : (Jvm.Cond.fieldLink "BorrowedLuck$Flows" (7 : Nat) "BorrowedLuck$Flows" "n" "I") ∈ lw_all := lw_g (lw_at lw_m4 75 rfl) rfl
theorem q918 : (Jvm.Cond.laysFinal "BorrowedLuck$Flows" "BorrowedLuck$Flows" "n" "I") ∈ lw_all := lw_g (lw_at lw_m4 77 rfl) rfl
theorem q919 : (Jvm.Cond.soleField "BorrowedLuck$Flows" "n") ∈ lw_all := lw_g (lw_at lw_m4 78 rfl) rfl
theorem q920 : (Jvm.Cond.laysFinal "BorrowedLuck$Flows" "BorrowedLuck$Line" "cond" "LBorrowedLuck$Cond;") ∈ lw_all := lw_g (lw_at lw_m4 79 rfl) rfl
theorem q922 : (Jvm.Cond.superclass "BorrowedLuck$Flows" "BorrowedLuck$Line") ∈ lw_all := lw_g (lw_at lw_m4 81 rfl) rfl
theorem q1061 : (Jvm.Cond.selects "BorrowedLuck$Flows" ({ cls := "BorrowedLuck$Line", name := "flows", desc := "([I)I" } : Jvm.MethodName) ({ cls := "BorrowedLuck$Flows", name := "flows", desc := "([I)I" } : Jvm.MethodName)) ∈ lw_all := lw_g (lw_at lw_m4 220 rfl) rfl
theorem q1062 : (Jvm.Cond.instanceMethod ({ cls := "BorrowedLuck$Flows", name := "flows", desc := "([I)I" } : Jvm.MethodName)) ∈ lw_all := lw_g (lw_at lw_m4 221 rfl) rfl
theorem q1063 : (Jvm.Cond.code ({ cls := "BorrowedLuck$Flows", name := "flows", desc := "([I)I" } : Jvm.MethodName) prog_4_method_2_code (2 : Nat) (Option.some Jvm.ClassFile.FieldType.int)) ∈ lw_all := lw_g (lw_at lw_m4 222 rfl) rfl
theorem q1064 : (Jvm.Cond.methodLink "BorrowedLuck$Flows" (13 : Nat) ({ cls := "BorrowedLuck$Flows", name := "is", desc := "([I)Z" } : Jvm.MethodName)) ∈ lw_all := lw_g (lw_at lw_m4 223 rfl) rfl
theorem q1065 : (Jvm.Cond.sameMethod "BorrowedLuck$Flows" "BorrowedLuck$Line" "is" "([I)Z") ∈ lw_all := lw_g (lw_at lw_m4 224 rfl) rfl
theorem q1067 : (Jvm.Cond.selects "BorrowedLuck$Flows" ({ cls := "BorrowedLuck$Flows", name := "is", desc := "([I)Z" } : Jvm.MethodName) ({ cls := "BorrowedLuck$Line", name := "is", desc := "([I)Z" } : Jvm.MethodName)) ∈ lw_all := lw_g (lw_at lw_m4 226 rfl) rfl
theorem q1175 : (Jvm.Cond.selects "BorrowedLuck$Flows" ({ cls := "BorrowedLuck$Line", name := "wears", desc := "([I)I" } : Jvm.MethodName) ({ cls := "BorrowedLuck$Line", name := "wears", desc := "([I)I" } : Jvm.MethodName)) ∈ lw_all := lw_g (lw_at lw_m5 94 rfl) rfl
theorem q1191 : (Jvm.Cond.selects "BorrowedLuck$Flows" ({ cls := "BorrowedLuck$Line", name := "sticks", desc := "([I)Z" } : Jvm.MethodName) ({ cls := "BorrowedLuck$Line", name := "sticks", desc := "([I)Z" } : Jvm.MethodName)) ∈ lw_all := lw_g (lw_at lw_m5 110 rfl) rfl
theorem q2104 : (Jvm.Cond.castable "BorrowedLuck$Flows" "java/lang/Object") ∈ lw_tbl := lw_at lw_m9 63 rfl
theorem q2113 : (Jvm.Cond.castable "BorrowedLuck$Flows" "BorrowedLuck$Line") ∈ lw_tbl := lw_at lw_m9 72 rfl
theorem in_X14 : ∀ w ∈ wsX140, w ∈ lw_all := lw_in wsX140 [920, 918] (by decide +kernel) (by decide +kernel)

/-! BorrowedLuck$Wears -/
set_option maxRecDepth 100000
def RX15 : String := "BorrowedLuck$Wears"
def TX15 : u_T := fun k => match k with
  | 0 => ("BorrowedLuck$Line", "cond", "LBorrowedLuck$Cond;", true)
  | _ => ("BorrowedLuck$Wears", "n", "I", true)
def tyX15 : Nat → FieldType := fun k => match k with
  | 0 => .object "BorrowedLuck$Cond"
  | _ => .int
abbrev wsX150 : List Cond := u_ws RX15 TX15 2
theorem nmX15 : ∀ a, a < 2 → ∀ b, b < 2 → a ≠ b → (TX15 a).2.1 ≠ (TX15 b).2.1 := by decide +kernel
theorem tyX15_ok : ∀ k, k < 2 → parseFieldDescriptor (TX15 k).2.2.1 = some (tyX15 k) := by decide +kernel
abbrev cX15_init : ByteArray := prog_14_method_1_code
def yX15_init : MethodName := ⟨RX15, "<init>", "(ILBorrowedLuck$Cond;)V"⟩
def dkwX15_init_0 : List UInt8 := [42, 44, 183, 0, 1, 42, 27, 181, 0, 7, 177]
abbrev dktX15_init_0 : List UInt8 := dkwX15_init_0 ++ []
theorem dksX15_init_0 : cX15_init.data.toList.drop 0 = dktX15_init_0 := by decide +kernel
theorem dX15_init_0 : decode cX15_init 0 = .ok (.aload_n 0, 1) := dk_42 (dk_at dksX15_init_0 0 rfl rfl)
theorem dX15_init_1 : decode cX15_init 1 = .ok (.aload_n 2, 1) := dk_44 (dk_at dksX15_init_0 1 rfl rfl)
theorem dX15_init_2 : decode cX15_init 2 = .ok (.invokespecial 1, 3) := dk_183 0 1 (dk_at dksX15_init_0 2 rfl rfl)
theorem dX15_init_5 : decode cX15_init 5 = .ok (.aload_n 0, 1) := dk_42 (dk_at dksX15_init_0 5 rfl rfl)
theorem dX15_init_6 : decode cX15_init 6 = .ok (.iload_n 1, 1) := dk_27 (dk_at dksX15_init_0 6 rfl rfl)
theorem dX15_init_7 : decode cX15_init 7 = .ok (.putfield 7, 3) := dk_181 0 7 (dk_at dksX15_init_0 7 rfl rfl)
theorem dX15_init_10 : decode cX15_init 10 = .ok (.return_, 1) := dk_177 (dk_at dksX15_init_0 10 rfl rfl)
abbrev cX15_wears : ByteArray := prog_14_method_2_code
def yX15_wears : MethodName := ⟨RX15, "wears", "([I)I"⟩
def dkwX15_wears_0 : List UInt8 := [42, 43, 182, 0, 13, 153, 0, 10, 42, 180, 0, 7, 167, 0, 4, 3, 172]
abbrev dktX15_wears_0 : List UInt8 := dkwX15_wears_0 ++ []
theorem dksX15_wears_0 : cX15_wears.data.toList.drop 0 = dktX15_wears_0 := by decide +kernel
theorem dX15_wears_0 : decode cX15_wears 0 = .ok (.aload_n 0, 1) := dk_42 (dk_at dksX15_wears_0 0 rfl rfl)
theorem dX15_wears_1 : decode cX15_wears 1 = .ok (.aload_n 1, 1) := dk_43 (dk_at dksX15_wears_0 1 rfl rfl)
theorem dX15_wears_2 : decode cX15_wears 2 = .ok (.invokevirtual 13, 3) := dk_182 0 13 (dk_at dksX15_wears_0 2 rfl rfl)
theorem dX15_wears_5 : decode cX15_wears 5 = .ok (.ifCond .eq 10, 3) := dk_153 0 10 (dk_at dksX15_wears_0 5 rfl rfl)
theorem dX15_wears_8 : decode cX15_wears 8 = .ok (.aload_n 0, 1) := dk_42 (dk_at dksX15_wears_0 8 rfl rfl)
theorem dX15_wears_9 : decode cX15_wears 9 = .ok (.getfield 7, 3) := dk_180 0 7 (dk_at dksX15_wears_0 9 rfl rfl)
theorem dX15_wears_12 : decode cX15_wears 12 = .ok (.goto 4, 3) := dk_167 0 4 (dk_at dksX15_wears_0 12 rfl rfl)
theorem dX15_wears_15 : decode cX15_wears 15 = .ok (.iconst 0, 1) := dk_3 (dk_at dksX15_wears_0 15 rfl rfl)
theorem dX15_wears_16 : decode cX15_wears 16 = .ok (.ireturn, 1) := dk_172 (dk_at dksX15_wears_0 16 rfl rfl)
theorem q146 : (Jvm.Cond.initialized "BorrowedLuck$Wears") ∈ lw_all := lw_g (lw_at lw_m1 25 rfl) rfl
theorem q924 : (Jvm.Cond.instantiable "BorrowedLuck$Wears" (2 : Nat)) ∈ lw_all := lw_g (lw_at lw_m4 83 rfl) rfl
theorem q926 : (Jvm.Cond.instanceMethod ({ cls := "BorrowedLuck$Wears", name := "<init>", desc := "(ILBorrowedLuck$Cond;)V" } : Jvm.MethodName)) ∈ lw_all := lw_g (lw_at lw_m4 85 rfl) rfl
theorem q927 : (Jvm.Cond.code ({ cls := "BorrowedLuck$Wears", name := "<init>", desc := "(ILBorrowedLuck$Cond;)V" } : Jvm.MethodName) prog_14_method_1_code (3 : Nat) (Option.none : Option Jvm.ClassFile.FieldType)) ∈ lw_all := lw_g (lw_at lw_m4 86 rfl) rfl
theorem q928 : (Jvm.Cond.methodLink "BorrowedLuck$Wears" (1 : Nat) ({ cls := "BorrowedLuck$Line", name := "<init>", desc := "(LBorrowedLuck$Cond;)V" } : Jvm.MethodName)) ∈ lw_all := lw_g (lw_at lw_m4 87 rfl) rfl
theorem q929 : (Jvm.Cond.fieldLink "BorrowedLuck$Wears" (7 : Nat) "BorrowedLuck$Wears" "n" "I") ∈ lw_all := lw_g (lw_at lw_m4 88 rfl) rfl
theorem q930 : (Jvm.Cond.laysFinal "BorrowedLuck$Wears" "BorrowedLuck$Wears" "n" "I") ∈ lw_all := lw_g (lw_at lw_m4 89 rfl) rfl
theorem q931 : (Jvm.Cond.soleField "BorrowedLuck$Wears" "n") ∈ lw_all := lw_g (lw_at lw_m4 90 rfl) rfl
theorem q932 : (Jvm.Cond.laysFinal "BorrowedLuck$Wears" "BorrowedLuck$Line" "cond" "LBorrowedLuck$Cond;") ∈ lw_all := lw_g (lw_at lw_m4 91 rfl) rfl
theorem q933 : (Jvm.Cond.superclass "BorrowedLuck$Wears" "BorrowedLuck$Line") ∈ lw_all := lw_g (lw_at lw_m4 92 rfl) rfl
theorem q1107 : (Jvm.Cond.selects "BorrowedLuck$Wears" ({ cls := "BorrowedLuck$Line", name := "flows", desc := "([I)I" } : Jvm.MethodName) ({ cls := "BorrowedLuck$Line", name := "flows", desc := "([I)I" } : Jvm.MethodName)) ∈ lw_all := lw_g (lw_at lw_m5 26 rfl) rfl
theorem q1177 : (Jvm.Cond.selects "BorrowedLuck$Wears" ({ cls := "BorrowedLuck$Line", name := "wears", desc := "([I)I" } : Jvm.MethodName) ({ cls := "BorrowedLuck$Wears", name := "wears", desc := "([I)I" } : Jvm.MethodName)) ∈ lw_all := lw_g (lw_at lw_m5 96 rfl) rfl
theorem q1178 : (Jvm.Cond.instanceMethod ({ cls := "BorrowedLuck$Wears", name := "wears", desc := "([I)I" } : Jvm.MethodName)) ∈ lw_all := lw_g (lw_at lw_m5 97 rfl) rfl
theorem q1179 : (Jvm.Cond.code ({ cls := "BorrowedLuck$Wears", name := "wears", desc := "([I)I" } : Jvm.MethodName) prog_14_method_2_code (2 : Nat) (Option.some Jvm.ClassFile.FieldType.int)) ∈ lw_all := lw_g (lw_at lw_m5 98 rfl) rfl
theorem q1180 : (Jvm.Cond.methodLink "BorrowedLuck$Wears" (13 : Nat) ({ cls := "BorrowedLuck$Wears", name := "is", desc := "([I)Z" } : Jvm.MethodName)) ∈ lw_all := lw_g (lw_at lw_m5 99 rfl) rfl
theorem q1181 : (Jvm.Cond.sameMethod "BorrowedLuck$Wears" "BorrowedLuck$Line" "is" "([I)Z") ∈ lw_all := lw_g (lw_at lw_m5 100 rfl) rfl
theorem q1182 : (Jvm.Cond.selects "BorrowedLuck$Wears" ({ cls := "BorrowedLuck$Wears", name := "is", desc := "([I)Z" } : Jvm.MethodName) ({ cls := "BorrowedLuck$Line", name := "is", desc := "([I)Z" } : Jvm.MethodName)) ∈ lw_all := lw_g (lw_at lw_m5 101 rfl) rfl
theorem q1198 : (Jvm.Cond.selects "BorrowedLuck$Wears" ({ cls := "BorrowedLuck$Line", name := "sticks", desc := "([I)Z" } : Jvm.MethodName) ({ cls := "BorrowedLuck$Line", name := "sticks", desc := "([I)Z" } : Jvm.MethodName)) ∈ lw_all := lw_g (lw_at lw_m5 117 rfl) rfl
theorem q2105 : (Jvm.Cond.castable "BorrowedLuck$Wears" "java/lang/Object") ∈ lw_tbl := lw_at lw_m9 64 rfl
theorem q2114 : (Jvm.Cond.castable "BorrowedLuck$Wears" "BorrowedLuck$Line") ∈ lw_tbl := lw_at lw_m9 73 rfl
theorem in_X15 : ∀ w ∈ wsX150, w ∈ lw_all := lw_in wsX150 [932, 930] (by decide +kernel) (by decide +kernel)

/-! BorrowedLuck$Sticks -/
set_option maxRecDepth 100000
def RX16 : String := "BorrowedLuck$Sticks"
def TX16 : u_T := fun k => match k with
  | _ => ("BorrowedLuck$Line", "cond", "LBorrowedLuck$Cond;", true)
def tyX16 : Nat → FieldType := fun k => match k with
  | _ => .object "BorrowedLuck$Cond"
abbrev wsX160 : List Cond := u_ws RX16 TX16 1
theorem nmX16 : ∀ a, a < 1 → ∀ b, b < 1 → a ≠ b → (TX16 a).2.1 ≠ (TX16 b).2.1 := by decide +kernel
theorem tyX16_ok : ∀ k, k < 1 → parseFieldDescriptor (TX16 k).2.2.1 = some (tyX16 k) := by decide +kernel
abbrev cX16_init : ByteArray := prog_10_method_1_code
def yX16_init : MethodName := ⟨RX16, "<init>", "(LBorrowedLuck$Cond;)V"⟩
def dkwX16_init_0 : List UInt8 := [42, 43, 183, 0, 1, 177]
abbrev dktX16_init_0 : List UInt8 := dkwX16_init_0 ++ []
theorem dksX16_init_0 : cX16_init.data.toList.drop 0 = dktX16_init_0 := by decide +kernel
theorem dX16_init_0 : decode cX16_init 0 = .ok (.aload_n 0, 1) := dk_42 (dk_at dksX16_init_0 0 rfl rfl)
theorem dX16_init_1 : decode cX16_init 1 = .ok (.aload_n 1, 1) := dk_43 (dk_at dksX16_init_0 1 rfl rfl)
theorem dX16_init_2 : decode cX16_init 2 = .ok (.invokespecial 1, 3) := dk_183 0 1 (dk_at dksX16_init_0 2 rfl rfl)
theorem dX16_init_5 : decode cX16_init 5 = .ok (.return_, 1) := dk_177 (dk_at dksX16_init_0 5 rfl rfl)
abbrev cX16_sticks : ByteArray := prog_10_method_2_code
def yX16_sticks : MethodName := ⟨RX16, "sticks", "([I)Z"⟩
def dkwX16_sticks_0 : List UInt8 := [42, 43, 182, 0, 7, 172]
abbrev dktX16_sticks_0 : List UInt8 := dkwX16_sticks_0 ++ []
theorem dksX16_sticks_0 : cX16_sticks.data.toList.drop 0 = dktX16_sticks_0 := by decide +kernel
theorem dX16_sticks_0 : decode cX16_sticks 0 = .ok (.aload_n 0, 1) := dk_42 (dk_at dksX16_sticks_0 0 rfl rfl)
theorem dX16_sticks_1 : decode cX16_sticks 1 = .ok (.aload_n 1, 1) := dk_43 (dk_at dksX16_sticks_0 1 rfl rfl)
theorem dX16_sticks_2 : decode cX16_sticks 2 = .ok (.invokevirtual 7, 3) := dk_182 0 7 (dk_at dksX16_sticks_0 2 rfl rfl)
theorem dX16_sticks_5 : decode cX16_sticks 5 = .ok (.ireturn, 1) := dk_172 (dk_at dksX16_sticks_0 5 rfl rfl)
theorem q147 : (Jvm.Cond.initialized "BorrowedLuck$Sticks") ∈ lw_all := lw_g (lw_at lw_m1 26 rfl) rfl
theorem q935 : (Jvm.Cond.instantiable "BorrowedLuck$Sticks" (1 : Nat)) ∈ lw_all := lw_g (lw_at lw_m4 94 rfl) rfl
theorem q937 : (Jvm.Cond.instanceMethod ({ cls := "BorrowedLuck$Sticks", name := "<init>", desc := "(LBorrowedLuck$Cond;)V" } : Jvm.MethodName)) ∈ lw_all := lw_g (lw_at lw_m4 96 rfl) rfl
theorem q938 : (Jvm.Cond.code ({ cls := "BorrowedLuck$Sticks", name := "<init>", desc := "(LBorrowedLuck$Cond;)V" } : Jvm.MethodName) prog_10_method_1_code (2 : Nat) (Option.none : Option Jvm.ClassFile.FieldType)) ∈ lw_all := lw_g (lw_at lw_m4 97 rfl) rfl
theorem q939 : (Jvm.Cond.methodLink "BorrowedLuck$Sticks" (1 : Nat) ({ cls := "BorrowedLuck$Line", name := "<init>", desc := "(LBorrowedLuck$Cond;)V" } : Jvm.MethodName)) ∈ lw_all := lw_g (lw_at lw_m4 98 rfl) rfl
theorem q940 : (Jvm.Cond.laysFinal "BorrowedLuck$Sticks" "BorrowedLuck$Line" "cond" "LBorrowedLuck$Cond;") ∈ lw_all := lw_g (lw_at lw_m4 99 rfl) rfl
theorem q941 : (Jvm.Cond.superclass "BorrowedLuck$Sticks" "BorrowedLuck$Line") ∈ lw_all := lw_g (lw_at lw_m4 100 rfl) rfl
theorem q1106 : (Jvm.Cond.selects "BorrowedLuck$Sticks" ({ cls := "BorrowedLuck$Line", name := "flows", desc := "([I)I" } : Jvm.MethodName) ({ cls := "BorrowedLuck$Line", name := "flows", desc := "([I)I" } : Jvm.MethodName)) ∈ lw_all := lw_g (lw_at lw_m5 25 rfl) rfl
theorem q1176 : (Jvm.Cond.selects "BorrowedLuck$Sticks" ({ cls := "BorrowedLuck$Line", name := "wears", desc := "([I)I" } : Jvm.MethodName) ({ cls := "BorrowedLuck$Line", name := "wears", desc := "([I)I" } : Jvm.MethodName)) ∈ lw_all := lw_g (lw_at lw_m5 95 rfl) rfl
theorem q1192 : (Jvm.Cond.selects "BorrowedLuck$Sticks" ({ cls := "BorrowedLuck$Line", name := "sticks", desc := "([I)Z" } : Jvm.MethodName) ({ cls := "BorrowedLuck$Sticks", name := "sticks", desc := "([I)Z" } : Jvm.MethodName)) ∈ lw_all := lw_g (lw_at lw_m5 111 rfl) rfl
theorem q1193 : (Jvm.Cond.instanceMethod ({ cls := "BorrowedLuck$Sticks", name := "sticks", desc := "([I)Z" } : Jvm.MethodName)) ∈ lw_all := lw_g (lw_at lw_m5 112 rfl) rfl
theorem q1194 : (Jvm.Cond.code ({ cls := "BorrowedLuck$Sticks", name := "sticks", desc := "([I)Z" } : Jvm.MethodName) prog_10_method_2_code (2 : Nat) (Option.some Jvm.ClassFile.FieldType.boolean)) ∈ lw_all := lw_g (lw_at lw_m5 113 rfl) rfl
theorem q1195 : (Jvm.Cond.methodLink "BorrowedLuck$Sticks" (7 : Nat) ({ cls := "BorrowedLuck$Sticks", name := "is", desc := "([I)Z" } : Jvm.MethodName)) ∈ lw_all := lw_g (lw_at lw_m5 114 rfl) rfl
theorem q1196 : (Jvm.Cond.sameMethod "BorrowedLuck$Sticks" "BorrowedLuck$Line" "is" "([I)Z") ∈ lw_all := lw_g (lw_at lw_m5 115 rfl) rfl
theorem q1197 : (Jvm.Cond.selects "BorrowedLuck$Sticks" ({ cls := "BorrowedLuck$Sticks", name := "is", desc := "([I)Z" } : Jvm.MethodName) ({ cls := "BorrowedLuck$Line", name := "is", desc := "([I)Z" } : Jvm.MethodName)) ∈ lw_all := lw_g (lw_at lw_m5 116 rfl) rfl
theorem q2106 : (Jvm.Cond.castable "BorrowedLuck$Sticks" "java/lang/Object") ∈ lw_tbl := lw_at lw_m9 65 rfl
theorem q2115 : (Jvm.Cond.castable "BorrowedLuck$Sticks" "BorrowedLuck$Line") ∈ lw_tbl := lw_at lw_m9 74 rfl
theorem in_X16 : ∀ w ∈ wsX160, w ∈ lw_all := lw_in wsX160 [940] (by decide +kernel) (by decide +kernel)

/-! BorrowedLuck$Reader -/
set_option maxRecDepth 100000
def RX2 : String := "BorrowedLuck$Reader"
def TX2 : u_T := fun k => match k with
  | 0 => ("BorrowedLuck$Reader", "tape", "[B", true)
  | 1 => ("BorrowedLuck$Reader", "words", "[Ljava/lang/String;", true)
  | 2 => ("BorrowedLuck$Reader", "tags", "[Ljava/lang/String;", true)
  | 3 => ("BorrowedLuck$Reader", "row", "[LBorrowedLuck$Line;", true)
  | 4 => ("BorrowedLuck$Reader", "draft", "LBorrowedLuck$State;", true)
  | 5 => ("BorrowedLuck$Reader", "wrong", "LBorrowedLuck$Wrong;", true)
  | 6 => ("BorrowedLuck$Reader", "size", "I", false)
  | 7 => ("BorrowedLuck$Reader", "end", "I", false)
  | 8 => ("BorrowedLuck$Reader", "at", "I", false)
  | _ => ("BorrowedLuck$Reader", "deep", "I", false)
def tyX2 : Nat → FieldType := fun k => match k with
  | 0 => .array .byte
  | 1 => .array (.object "java/lang/String")
  | 2 => .array (.object "java/lang/String")
  | 3 => .array (.object "BorrowedLuck$Line")
  | 4 => .object "BorrowedLuck$State"
  | 5 => .object "BorrowedLuck$Wrong"
  | 6 => .int
  | 7 => .int
  | 8 => .int
  | _ => .int
abbrev wsX20 : List Cond := u_ws RX2 TX2 10
theorem nmX2 : ∀ a, a < 10 → ∀ b, b < 10 → a ≠ b → (TX2 a).2.1 ≠ (TX2 b).2.1 := by decide +kernel
theorem tyX2_ok : ∀ k, k < 10 → parseFieldDescriptor (TX2 k).2.2.1 = some (tyX2 k) := by decide +kernel
abbrev cX2_init : ByteArray := prog_8_method_1_code
def yX2_init : MethodName := ⟨RX2, "<init>", "()V"⟩
def dkwX2_init_4 : List UInt8 := [183, 0, 52, 181, 0, 53, 42, 187, 0, 57, 89, 183, 0, 59, 181, 0, 60, 177]
abbrev dktX2_init_4 : List UInt8 := dkwX2_init_4 ++ []
def dkwX2_init_3 : List UInt8 := [83, 89, 5, 18, 39, 83, 181, 0, 41, 42, 16, 12, 189, 0, 44, 181, 0, 46, 42, 187, 0, 50, 89]
abbrev dktX2_init_3 : List UInt8 := dkwX2_init_3 ++ dktX2_init_4
def dkwX2_init_2 : List UInt8 := [83, 89, 16, 6, 18, 29, 83, 181, 0, 31, 42, 6, 189, 0, 15, 89, 3, 18, 35, 83, 89, 4, 18, 37]
abbrev dktX2_init_2 : List UInt8 := dkwX2_init_2 ++ dktX2_init_3
def dkwX2_init_1 : List UInt8 := [89, 4, 18, 19, 83, 89, 5, 18, 21, 83, 89, 6, 18, 23, 83, 89, 7, 18, 25, 83, 89, 8, 18, 27]
abbrev dktX2_init_1 : List UInt8 := dkwX2_init_1 ++ dktX2_init_2
def dkwX2_init_0 : List UInt8 := [42, 183, 0, 3, 42, 17, 1, 144, 188, 8, 181, 0, 9, 42, 16, 7, 189, 0, 15, 89, 3, 18, 17, 83]
abbrev dktX2_init_0 : List UInt8 := dkwX2_init_0 ++ dktX2_init_1
theorem dksX2_init_0 : cX2_init.data.toList.drop 0 = dktX2_init_0 := by decide +kernel
theorem dksX2_init_1 : cX2_init.data.toList.drop 24 = dktX2_init_1 := dk_seg dksX2_init_0 24 rfl rfl
theorem dksX2_init_2 : cX2_init.data.toList.drop 48 = dktX2_init_2 := dk_seg dksX2_init_1 24 rfl rfl
theorem dksX2_init_3 : cX2_init.data.toList.drop 72 = dktX2_init_3 := dk_seg dksX2_init_2 24 rfl rfl
theorem dksX2_init_4 : cX2_init.data.toList.drop 95 = dktX2_init_4 := dk_seg dksX2_init_3 23 rfl rfl
theorem dX2_init_0 : decode cX2_init 0 = .ok (.aload_n 0, 1) := dk_42 (dk_at dksX2_init_0 0 rfl rfl)
theorem dX2_init_1 : decode cX2_init 1 = .ok (.invokespecial 3, 3) := dk_183 0 3 (dk_at dksX2_init_0 1 rfl rfl)
theorem dX2_init_4 : decode cX2_init 4 = .ok (.aload_n 0, 1) := dk_42 (dk_at dksX2_init_0 4 rfl rfl)
theorem dX2_init_5 : decode cX2_init 5 = .ok (.sipush 400, 3) := dk_17 1 144 (dk_at dksX2_init_0 5 rfl rfl)
theorem dX2_init_8 : decode cX2_init 8 = .ok (.newarray .byte, 2) := dk_188_8 (dk_at dksX2_init_0 8 rfl rfl)
theorem dX2_init_10 : decode cX2_init 10 = .ok (.putfield 9, 3) := dk_181 0 9 (dk_at dksX2_init_0 10 rfl rfl)
theorem dX2_init_13 : decode cX2_init 13 = .ok (.aload_n 0, 1) := dk_42 (dk_at dksX2_init_0 13 rfl rfl)
theorem dX2_init_14 : decode cX2_init 14 = .ok (.bipush 7, 2) := dk_16 7 (dk_at dksX2_init_0 14 rfl rfl)
theorem dX2_init_16 : decode cX2_init 16 = .ok (.anewarray 15, 3) := dk_189 0 15 (dk_at dksX2_init_0 16 rfl rfl)
theorem dX2_init_19 : decode cX2_init 19 = .ok (.dup, 1) := dk_89 (dk_at dksX2_init_0 19 rfl rfl)
theorem dX2_init_20 : decode cX2_init 20 = .ok (.iconst 0, 1) := dk_3 (dk_at dksX2_init_0 20 rfl rfl)
theorem dX2_init_21 : decode cX2_init 21 = .ok (.ldc 17, 2) := dk_18 17 (dk_at dksX2_init_0 21 rfl rfl)
theorem dX2_init_23 : decode cX2_init 23 = .ok (.aastore, 1) := dk_83 (dk_at dksX2_init_0 23 rfl rfl)
theorem dX2_init_24 : decode cX2_init 24 = .ok (.dup, 1) := dk_89 (dk_at dksX2_init_1 0 rfl rfl)
theorem dX2_init_25 : decode cX2_init 25 = .ok (.iconst 1, 1) := dk_4 (dk_at dksX2_init_1 1 rfl rfl)
theorem dX2_init_26 : decode cX2_init 26 = .ok (.ldc 19, 2) := dk_18 19 (dk_at dksX2_init_1 2 rfl rfl)
theorem dX2_init_28 : decode cX2_init 28 = .ok (.aastore, 1) := dk_83 (dk_at dksX2_init_1 4 rfl rfl)
theorem dX2_init_29 : decode cX2_init 29 = .ok (.dup, 1) := dk_89 (dk_at dksX2_init_1 5 rfl rfl)
theorem dX2_init_30 : decode cX2_init 30 = .ok (.iconst 2, 1) := dk_5 (dk_at dksX2_init_1 6 rfl rfl)
theorem dX2_init_31 : decode cX2_init 31 = .ok (.ldc 21, 2) := dk_18 21 (dk_at dksX2_init_1 7 rfl rfl)
theorem dX2_init_33 : decode cX2_init 33 = .ok (.aastore, 1) := dk_83 (dk_at dksX2_init_1 9 rfl rfl)
theorem dX2_init_34 : decode cX2_init 34 = .ok (.dup, 1) := dk_89 (dk_at dksX2_init_1 10 rfl rfl)
theorem dX2_init_35 : decode cX2_init 35 = .ok (.iconst 3, 1) := dk_6 (dk_at dksX2_init_1 11 rfl rfl)
theorem dX2_init_36 : decode cX2_init 36 = .ok (.ldc 23, 2) := dk_18 23 (dk_at dksX2_init_1 12 rfl rfl)
theorem dX2_init_38 : decode cX2_init 38 = .ok (.aastore, 1) := dk_83 (dk_at dksX2_init_1 14 rfl rfl)
theorem dX2_init_39 : decode cX2_init 39 = .ok (.dup, 1) := dk_89 (dk_at dksX2_init_1 15 rfl rfl)
theorem dX2_init_40 : decode cX2_init 40 = .ok (.iconst 4, 1) := dk_7 (dk_at dksX2_init_1 16 rfl rfl)
theorem dX2_init_41 : decode cX2_init 41 = .ok (.ldc 25, 2) := dk_18 25 (dk_at dksX2_init_1 17 rfl rfl)
theorem dX2_init_43 : decode cX2_init 43 = .ok (.aastore, 1) := dk_83 (dk_at dksX2_init_1 19 rfl rfl)
theorem dX2_init_44 : decode cX2_init 44 = .ok (.dup, 1) := dk_89 (dk_at dksX2_init_1 20 rfl rfl)
theorem dX2_init_45 : decode cX2_init 45 = .ok (.iconst 5, 1) := dk_8 (dk_at dksX2_init_1 21 rfl rfl)
theorem dX2_init_46 : decode cX2_init 46 = .ok (.ldc 27, 2) := dk_18 27 (dk_at dksX2_init_1 22 rfl rfl)
theorem dX2_init_48 : decode cX2_init 48 = .ok (.aastore, 1) := dk_83 (dk_at dksX2_init_2 0 rfl rfl)
theorem dX2_init_49 : decode cX2_init 49 = .ok (.dup, 1) := dk_89 (dk_at dksX2_init_2 1 rfl rfl)
theorem dX2_init_50 : decode cX2_init 50 = .ok (.bipush 6, 2) := dk_16 6 (dk_at dksX2_init_2 2 rfl rfl)
theorem dX2_init_52 : decode cX2_init 52 = .ok (.ldc 29, 2) := dk_18 29 (dk_at dksX2_init_2 4 rfl rfl)
theorem dX2_init_54 : decode cX2_init 54 = .ok (.aastore, 1) := dk_83 (dk_at dksX2_init_2 6 rfl rfl)
theorem dX2_init_55 : decode cX2_init 55 = .ok (.putfield 31, 3) := dk_181 0 31 (dk_at dksX2_init_2 7 rfl rfl)
theorem dX2_init_58 : decode cX2_init 58 = .ok (.aload_n 0, 1) := dk_42 (dk_at dksX2_init_2 10 rfl rfl)
theorem dX2_init_59 : decode cX2_init 59 = .ok (.iconst 3, 1) := dk_6 (dk_at dksX2_init_2 11 rfl rfl)
theorem dX2_init_60 : decode cX2_init 60 = .ok (.anewarray 15, 3) := dk_189 0 15 (dk_at dksX2_init_2 12 rfl rfl)
theorem dX2_init_63 : decode cX2_init 63 = .ok (.dup, 1) := dk_89 (dk_at dksX2_init_2 15 rfl rfl)
theorem dX2_init_64 : decode cX2_init 64 = .ok (.iconst 0, 1) := dk_3 (dk_at dksX2_init_2 16 rfl rfl)
theorem dX2_init_65 : decode cX2_init 65 = .ok (.ldc 35, 2) := dk_18 35 (dk_at dksX2_init_2 17 rfl rfl)
theorem dX2_init_67 : decode cX2_init 67 = .ok (.aastore, 1) := dk_83 (dk_at dksX2_init_2 19 rfl rfl)
theorem dX2_init_68 : decode cX2_init 68 = .ok (.dup, 1) := dk_89 (dk_at dksX2_init_2 20 rfl rfl)
theorem dX2_init_69 : decode cX2_init 69 = .ok (.iconst 1, 1) := dk_4 (dk_at dksX2_init_2 21 rfl rfl)
theorem dX2_init_70 : decode cX2_init 70 = .ok (.ldc 37, 2) := dk_18 37 (dk_at dksX2_init_2 22 rfl rfl)
theorem dX2_init_72 : decode cX2_init 72 = .ok (.aastore, 1) := dk_83 (dk_at dksX2_init_3 0 rfl rfl)
theorem dX2_init_73 : decode cX2_init 73 = .ok (.dup, 1) := dk_89 (dk_at dksX2_init_3 1 rfl rfl)
theorem dX2_init_74 : decode cX2_init 74 = .ok (.iconst 2, 1) := dk_5 (dk_at dksX2_init_3 2 rfl rfl)
theorem dX2_init_75 : decode cX2_init 75 = .ok (.ldc 39, 2) := dk_18 39 (dk_at dksX2_init_3 3 rfl rfl)
theorem dX2_init_77 : decode cX2_init 77 = .ok (.aastore, 1) := dk_83 (dk_at dksX2_init_3 5 rfl rfl)
theorem dX2_init_78 : decode cX2_init 78 = .ok (.putfield 41, 3) := dk_181 0 41 (dk_at dksX2_init_3 6 rfl rfl)
theorem dX2_init_81 : decode cX2_init 81 = .ok (.aload_n 0, 1) := dk_42 (dk_at dksX2_init_3 9 rfl rfl)
theorem dX2_init_82 : decode cX2_init 82 = .ok (.bipush 12, 2) := dk_16 12 (dk_at dksX2_init_3 10 rfl rfl)
theorem dX2_init_84 : decode cX2_init 84 = .ok (.anewarray 44, 3) := dk_189 0 44 (dk_at dksX2_init_3 12 rfl rfl)
theorem dX2_init_87 : decode cX2_init 87 = .ok (.putfield 46, 3) := dk_181 0 46 (dk_at dksX2_init_3 15 rfl rfl)
theorem dX2_init_90 : decode cX2_init 90 = .ok (.aload_n 0, 1) := dk_42 (dk_at dksX2_init_3 18 rfl rfl)
theorem dX2_init_91 : decode cX2_init 91 = .ok (.new 50, 3) := dk_187 0 50 (dk_at dksX2_init_3 19 rfl rfl)
theorem dX2_init_94 : decode cX2_init 94 = .ok (.dup, 1) := dk_89 (dk_at dksX2_init_3 22 rfl rfl)
theorem dX2_init_95 : decode cX2_init 95 = .ok (.invokespecial 52, 3) := dk_183 0 52 (dk_at dksX2_init_4 0 rfl rfl)
theorem dX2_init_98 : decode cX2_init 98 = .ok (.putfield 53, 3) := dk_181 0 53 (dk_at dksX2_init_4 3 rfl rfl)
theorem dX2_init_101 : decode cX2_init 101 = .ok (.aload_n 0, 1) := dk_42 (dk_at dksX2_init_4 6 rfl rfl)
theorem dX2_init_102 : decode cX2_init 102 = .ok (.new 57, 3) := dk_187 0 57 (dk_at dksX2_init_4 7 rfl rfl)
theorem dX2_init_105 : decode cX2_init 105 = .ok (.dup, 1) := dk_89 (dk_at dksX2_init_4 10 rfl rfl)
theorem dX2_init_106 : decode cX2_init 106 = .ok (.invokespecial 59, 3) := dk_183 0 59 (dk_at dksX2_init_4 11 rfl rfl)
theorem dX2_init_109 : decode cX2_init 109 = .ok (.putfield 60, 3) := dk_181 0 60 (dk_at dksX2_init_4 14 rfl rfl)
theorem dX2_init_112 : decode cX2_init 112 = .ok (.return_, 1) := dk_177 (dk_at dksX2_init_4 17 rfl rfl)
abbrev cX2_coast : ByteArray := prog_8_method_12_code
def yX2_coast : MethodName := ⟨RX2, "coast", "(ILBorrowedLuck$State;)LBorrowedLuck$State;"⟩
def dkwX2_coast_1 : List UInt8 := [153, 0, 13, 42, 182, 0, 118, 132, 3, 1, 167, 255, 239, 42, 180, 0, 53, 176]
abbrev dktX2_coast_1 : List UInt8 := dkwX2_coast_1 ++ []
def dkwX2_coast_0 : List UInt8 := [42, 27, 182, 0, 107, 42, 180, 0, 53, 44, 182, 0, 110, 3, 62, 42, 29, 16, 14, 182, 0, 114]
abbrev dktX2_coast_0 : List UInt8 := dkwX2_coast_0 ++ dktX2_coast_1
theorem dksX2_coast_0 : cX2_coast.data.toList.drop 0 = dktX2_coast_0 := by decide +kernel
theorem dksX2_coast_1 : cX2_coast.data.toList.drop 22 = dktX2_coast_1 := dk_seg dksX2_coast_0 22 rfl rfl
theorem dX2_coast_0 : decode cX2_coast 0 = .ok (.aload_n 0, 1) := dk_42 (dk_at dksX2_coast_0 0 rfl rfl)
theorem dX2_coast_1 : decode cX2_coast 1 = .ok (.iload_n 1, 1) := dk_27 (dk_at dksX2_coast_0 1 rfl rfl)
theorem dX2_coast_2 : decode cX2_coast 2 = .ok (.invokevirtual 107, 3) := dk_182 0 107 (dk_at dksX2_coast_0 2 rfl rfl)
theorem dX2_coast_5 : decode cX2_coast 5 = .ok (.aload_n 0, 1) := dk_42 (dk_at dksX2_coast_0 5 rfl rfl)
theorem dX2_coast_6 : decode cX2_coast 6 = .ok (.getfield 53, 3) := dk_180 0 53 (dk_at dksX2_coast_0 6 rfl rfl)
theorem dX2_coast_9 : decode cX2_coast 9 = .ok (.aload_n 2, 1) := dk_44 (dk_at dksX2_coast_0 9 rfl rfl)
theorem dX2_coast_10 : decode cX2_coast 10 = .ok (.invokevirtual 110, 3) := dk_182 0 110 (dk_at dksX2_coast_0 10 rfl rfl)
theorem dX2_coast_13 : decode cX2_coast 13 = .ok (.iconst 0, 1) := dk_3 (dk_at dksX2_coast_0 13 rfl rfl)
theorem dX2_coast_14 : decode cX2_coast 14 = .ok (.istore_n 3, 1) := dk_62 (dk_at dksX2_coast_0 14 rfl rfl)
theorem dX2_coast_15 : decode cX2_coast 15 = .ok (.aload_n 0, 1) := dk_42 (dk_at dksX2_coast_0 15 rfl rfl)
theorem dX2_coast_16 : decode cX2_coast 16 = .ok (.iload_n 3, 1) := dk_29 (dk_at dksX2_coast_0 16 rfl rfl)
theorem dX2_coast_17 : decode cX2_coast 17 = .ok (.bipush 14, 2) := dk_16 14 (dk_at dksX2_coast_0 17 rfl rfl)
theorem dX2_coast_19 : decode cX2_coast 19 = .ok (.invokevirtual 114, 3) := dk_182 0 114 (dk_at dksX2_coast_0 19 rfl rfl)
theorem dX2_coast_22 : decode cX2_coast 22 = .ok (.ifCond .eq 13, 3) := dk_153 0 13 (dk_at dksX2_coast_1 0 rfl rfl)
theorem dX2_coast_25 : decode cX2_coast 25 = .ok (.aload_n 0, 1) := dk_42 (dk_at dksX2_coast_1 3 rfl rfl)
theorem dX2_coast_26 : decode cX2_coast 26 = .ok (.invokevirtual 118, 3) := dk_182 0 118 (dk_at dksX2_coast_1 4 rfl rfl)
theorem dX2_coast_29 : decode cX2_coast 29 = .ok (.iinc 3 1, 3) := dk_132 3 1 (dk_at dksX2_coast_1 7 rfl rfl)
theorem dX2_coast_32 : decode cX2_coast 32 = .ok (.goto (-17), 3) := dk_167 255 239 (dk_at dksX2_coast_1 10 rfl rfl)
theorem dX2_coast_35 : decode cX2_coast 35 = .ok (.aload_n 0, 1) := dk_42 (dk_at dksX2_coast_1 13 rfl rfl)
theorem dX2_coast_36 : decode cX2_coast 36 = .ok (.getfield 53, 3) := dk_180 0 53 (dk_at dksX2_coast_1 14 rfl rfl)
theorem dX2_coast_39 : decode cX2_coast 39 = .ok (.areturn, 1) := dk_176 (dk_at dksX2_coast_1 17 rfl rfl)
abbrev cX2_begins : ByteArray := prog_8_method_10_code
def yX2_begins : MethodName := ⟨RX2, "begins", "(I)V"⟩
def dkwX2_begins_0 : List UInt8 := [42, 27, 181, 0, 71, 42, 3, 181, 0, 68, 42, 3, 181, 0, 104, 177]
abbrev dktX2_begins_0 : List UInt8 := dkwX2_begins_0 ++ []
theorem dksX2_begins_0 : cX2_begins.data.toList.drop 0 = dktX2_begins_0 := by decide +kernel
theorem dX2_begins_0 : decode cX2_begins 0 = .ok (.aload_n 0, 1) := dk_42 (dk_at dksX2_begins_0 0 rfl rfl)
theorem dX2_begins_1 : decode cX2_begins 1 = .ok (.iload_n 1, 1) := dk_27 (dk_at dksX2_begins_0 1 rfl rfl)
theorem dX2_begins_2 : decode cX2_begins 2 = .ok (.putfield 71, 3) := dk_181 0 71 (dk_at dksX2_begins_0 2 rfl rfl)
theorem dX2_begins_5 : decode cX2_begins 5 = .ok (.aload_n 0, 1) := dk_42 (dk_at dksX2_begins_0 5 rfl rfl)
theorem dX2_begins_6 : decode cX2_begins 6 = .ok (.iconst 0, 1) := dk_3 (dk_at dksX2_begins_0 6 rfl rfl)
theorem dX2_begins_7 : decode cX2_begins 7 = .ok (.putfield 68, 3) := dk_181 0 68 (dk_at dksX2_begins_0 7 rfl rfl)
theorem dX2_begins_10 : decode cX2_begins 10 = .ok (.aload_n 0, 1) := dk_42 (dk_at dksX2_begins_0 10 rfl rfl)
theorem dX2_begins_11 : decode cX2_begins 11 = .ok (.iconst 0, 1) := dk_3 (dk_at dksX2_begins_0 11 rfl rfl)
theorem dX2_begins_12 : decode cX2_begins 12 = .ok (.putfield 104, 3) := dk_181 0 104 (dk_at dksX2_begins_0 12 rfl rfl)
theorem dX2_begins_15 : decode cX2_begins 15 = .ok (.return_, 1) := dk_177 (dk_at dksX2_begins_0 15 rfl rfl)
abbrev cX2_more : ByteArray := prog_8_method_11_code
def yX2_more : MethodName := ⟨RX2, "more", "(II)Z"⟩
def dkwX2_more_4 : List UInt8 := [172]
abbrev dktX2_more_4 : List UInt8 := dkwX2_more_4 ++ []
def dkwX2_more_3 : List UInt8 := [167, 0, 4, 2, 54, 4, 29, 153, 0, 16, 27, 28, 160, 0, 11, 42, 42, 180, 0, 68, 182, 0, 89, 29]
abbrev dktX2_more_3 : List UInt8 := dkwX2_more_3 ++ dktX2_more_4
def dkwX2_more_2 : List UInt8 := [27, 158, 0, 13, 42, 89, 180, 0, 68, 4, 96, 181, 0, 68, 29, 153, 0, 10, 42, 182, 0, 74]
abbrev dktX2_more_2 : List UInt8 := dkwX2_more_2 ++ dktX2_more_3
def dkwX2_more_1 : List UInt8 := [180, 0, 68, 182, 0, 89, 42, 182, 0, 74, 2, 159, 0, 7, 4, 167, 0, 4, 3, 62, 29, 153, 0, 17]
abbrev dktX2_more_1 : List UInt8 := dkwX2_more_1 ++ dktX2_more_2
def dkwX2_more_0 : List UInt8 := [27, 158, 0, 28, 42, 182, 0, 74, 2, 159, 0, 20, 42, 182, 0, 74, 16, 59, 159, 0, 11, 42, 42]
abbrev dktX2_more_0 : List UInt8 := dkwX2_more_0 ++ dktX2_more_1
theorem dksX2_more_0 : cX2_more.data.toList.drop 0 = dktX2_more_0 := by decide +kernel
theorem dksX2_more_1 : cX2_more.data.toList.drop 23 = dktX2_more_1 := dk_seg dksX2_more_0 23 rfl rfl
theorem dksX2_more_2 : cX2_more.data.toList.drop 47 = dktX2_more_2 := dk_seg dksX2_more_1 24 rfl rfl
theorem dksX2_more_3 : cX2_more.data.toList.drop 69 = dktX2_more_3 := dk_seg dksX2_more_2 22 rfl rfl
theorem dksX2_more_4 : cX2_more.data.toList.drop 93 = dktX2_more_4 := dk_seg dksX2_more_3 24 rfl rfl
theorem dX2_more_0 : decode cX2_more 0 = .ok (.iload_n 1, 1) := dk_27 (dk_at dksX2_more_0 0 rfl rfl)
theorem dX2_more_1 : decode cX2_more 1 = .ok (.ifCond .le 28, 3) := dk_158 0 28 (dk_at dksX2_more_0 1 rfl rfl)
theorem dX2_more_4 : decode cX2_more 4 = .ok (.aload_n 0, 1) := dk_42 (dk_at dksX2_more_0 4 rfl rfl)
theorem dX2_more_5 : decode cX2_more 5 = .ok (.invokevirtual 74, 3) := dk_182 0 74 (dk_at dksX2_more_0 5 rfl rfl)
theorem dX2_more_8 : decode cX2_more 8 = .ok (.iconst (-1), 1) := dk_2 (dk_at dksX2_more_0 8 rfl rfl)
theorem dX2_more_9 : decode cX2_more 9 = .ok (.if_icmp .eq 20, 3) := dk_159 0 20 (dk_at dksX2_more_0 9 rfl rfl)
theorem dX2_more_12 : decode cX2_more 12 = .ok (.aload_n 0, 1) := dk_42 (dk_at dksX2_more_0 12 rfl rfl)
theorem dX2_more_13 : decode cX2_more 13 = .ok (.invokevirtual 74, 3) := dk_182 0 74 (dk_at dksX2_more_0 13 rfl rfl)
theorem dX2_more_16 : decode cX2_more 16 = .ok (.bipush 59, 2) := dk_16 59 (dk_at dksX2_more_0 16 rfl rfl)
theorem dX2_more_18 : decode cX2_more 18 = .ok (.if_icmp .eq 11, 3) := dk_159 0 11 (dk_at dksX2_more_0 18 rfl rfl)
theorem dX2_more_21 : decode cX2_more 21 = .ok (.aload_n 0, 1) := dk_42 (dk_at dksX2_more_0 21 rfl rfl)
theorem dX2_more_22 : decode cX2_more 22 = .ok (.aload_n 0, 1) := dk_42 (dk_at dksX2_more_0 22 rfl rfl)
theorem dX2_more_23 : decode cX2_more 23 = .ok (.getfield 68, 3) := dk_180 0 68 (dk_at dksX2_more_1 0 rfl rfl)
theorem dX2_more_26 : decode cX2_more 26 = .ok (.invokevirtual 89, 3) := dk_182 0 89 (dk_at dksX2_more_1 3 rfl rfl)
theorem dX2_more_29 : decode cX2_more 29 = .ok (.aload_n 0, 1) := dk_42 (dk_at dksX2_more_1 6 rfl rfl)
theorem dX2_more_30 : decode cX2_more 30 = .ok (.invokevirtual 74, 3) := dk_182 0 74 (dk_at dksX2_more_1 7 rfl rfl)
theorem dX2_more_33 : decode cX2_more 33 = .ok (.iconst (-1), 1) := dk_2 (dk_at dksX2_more_1 10 rfl rfl)
theorem dX2_more_34 : decode cX2_more 34 = .ok (.if_icmp .eq 7, 3) := dk_159 0 7 (dk_at dksX2_more_1 11 rfl rfl)
theorem dX2_more_37 : decode cX2_more 37 = .ok (.iconst 1, 1) := dk_4 (dk_at dksX2_more_1 14 rfl rfl)
theorem dX2_more_38 : decode cX2_more 38 = .ok (.goto 4, 3) := dk_167 0 4 (dk_at dksX2_more_1 15 rfl rfl)
theorem dX2_more_41 : decode cX2_more 41 = .ok (.iconst 0, 1) := dk_3 (dk_at dksX2_more_1 18 rfl rfl)
theorem dX2_more_42 : decode cX2_more 42 = .ok (.istore_n 3, 1) := dk_62 (dk_at dksX2_more_1 19 rfl rfl)
theorem dX2_more_43 : decode cX2_more 43 = .ok (.iload_n 3, 1) := dk_29 (dk_at dksX2_more_1 20 rfl rfl)
theorem dX2_more_44 : decode cX2_more 44 = .ok (.ifCond .eq 17, 3) := dk_153 0 17 (dk_at dksX2_more_1 21 rfl rfl)
theorem dX2_more_47 : decode cX2_more 47 = .ok (.iload_n 1, 1) := dk_27 (dk_at dksX2_more_2 0 rfl rfl)
theorem dX2_more_48 : decode cX2_more 48 = .ok (.ifCond .le 13, 3) := dk_158 0 13 (dk_at dksX2_more_2 1 rfl rfl)
theorem dX2_more_51 : decode cX2_more 51 = .ok (.aload_n 0, 1) := dk_42 (dk_at dksX2_more_2 4 rfl rfl)
theorem dX2_more_52 : decode cX2_more 52 = .ok (.dup, 1) := dk_89 (dk_at dksX2_more_2 5 rfl rfl)
theorem dX2_more_53 : decode cX2_more 53 = .ok (.getfield 68, 3) := dk_180 0 68 (dk_at dksX2_more_2 6 rfl rfl)
theorem dX2_more_56 : decode cX2_more 56 = .ok (.iconst 1, 1) := dk_4 (dk_at dksX2_more_2 9 rfl rfl)
theorem dX2_more_57 : decode cX2_more 57 = .ok (.iadd, 1) := dk_96 (dk_at dksX2_more_2 10 rfl rfl)
theorem dX2_more_58 : decode cX2_more 58 = .ok (.putfield 68, 3) := dk_181 0 68 (dk_at dksX2_more_2 11 rfl rfl)
theorem dX2_more_61 : decode cX2_more 61 = .ok (.iload_n 3, 1) := dk_29 (dk_at dksX2_more_2 14 rfl rfl)
theorem dX2_more_62 : decode cX2_more 62 = .ok (.ifCond .eq 10, 3) := dk_153 0 10 (dk_at dksX2_more_2 15 rfl rfl)
theorem dX2_more_65 : decode cX2_more 65 = .ok (.aload_n 0, 1) := dk_42 (dk_at dksX2_more_2 18 rfl rfl)
theorem dX2_more_66 : decode cX2_more 66 = .ok (.invokevirtual 74, 3) := dk_182 0 74 (dk_at dksX2_more_2 19 rfl rfl)
theorem dX2_more_69 : decode cX2_more 69 = .ok (.goto 4, 3) := dk_167 0 4 (dk_at dksX2_more_3 0 rfl rfl)
theorem dX2_more_72 : decode cX2_more 72 = .ok (.iconst (-1), 1) := dk_2 (dk_at dksX2_more_3 3 rfl rfl)
theorem dX2_more_73 : decode cX2_more 73 = .ok (.istore 4, 2) := dk_54 4 (dk_at dksX2_more_3 4 rfl rfl)
theorem dX2_more_75 : decode cX2_more 75 = .ok (.iload_n 3, 1) := dk_29 (dk_at dksX2_more_3 6 rfl rfl)
theorem dX2_more_76 : decode cX2_more 76 = .ok (.ifCond .eq 16, 3) := dk_153 0 16 (dk_at dksX2_more_3 7 rfl rfl)
theorem dX2_more_79 : decode cX2_more 79 = .ok (.iload_n 1, 1) := dk_27 (dk_at dksX2_more_3 10 rfl rfl)
theorem dX2_more_80 : decode cX2_more 80 = .ok (.iload_n 2, 1) := dk_28 (dk_at dksX2_more_3 11 rfl rfl)
theorem dX2_more_81 : decode cX2_more 81 = .ok (.if_icmp .ne 11, 3) := dk_160 0 11 (dk_at dksX2_more_3 12 rfl rfl)
theorem dX2_more_84 : decode cX2_more 84 = .ok (.aload_n 0, 1) := dk_42 (dk_at dksX2_more_3 15 rfl rfl)
theorem dX2_more_85 : decode cX2_more 85 = .ok (.aload_n 0, 1) := dk_42 (dk_at dksX2_more_3 16 rfl rfl)
theorem dX2_more_86 : decode cX2_more 86 = .ok (.getfield 68, 3) := dk_180 0 68 (dk_at dksX2_more_3 17 rfl rfl)
theorem dX2_more_89 : decode cX2_more 89 = .ok (.invokevirtual 89, 3) := dk_182 0 89 (dk_at dksX2_more_3 20 rfl rfl)
theorem dX2_more_92 : decode cX2_more 92 = .ok (.iload_n 3, 1) := dk_29 (dk_at dksX2_more_3 23 rfl rfl)
theorem dX2_more_93 : decode cX2_more 93 = .ok (.ireturn, 1) := dk_172 (dk_at dksX2_more_4 0 rfl rfl)
abbrev cX2_sign : ByteArray := prog_8_method_3_code
def yX2_sign : MethodName := ⟨RX2, "sign", "()I"⟩
def dkwX2_sign_2 : List UInt8 := [162, 0, 19, 42, 180, 0, 9, 42, 180, 0, 68, 51, 17, 0, 255, 126, 167, 0, 4, 2, 172]
abbrev dktX2_sign_2 : List UInt8 := dkwX2_sign_2 ++ []
def dkwX2_sign_1 : List UInt8 := [160, 0, 16, 42, 89, 180, 0, 68, 4, 96, 181, 0, 68, 167, 255, 221, 42, 180, 0, 68, 42, 180, 0, 71]
abbrev dktX2_sign_1 : List UInt8 := dkwX2_sign_1 ++ dktX2_sign_2
def dkwX2_sign_0 : List UInt8 := [42, 180, 0, 68, 42, 180, 0, 71, 162, 0, 30, 42, 180, 0, 9, 42, 180, 0, 68, 51, 16, 32]
abbrev dktX2_sign_0 : List UInt8 := dkwX2_sign_0 ++ dktX2_sign_1
theorem dksX2_sign_0 : cX2_sign.data.toList.drop 0 = dktX2_sign_0 := by decide +kernel
theorem dksX2_sign_1 : cX2_sign.data.toList.drop 22 = dktX2_sign_1 := dk_seg dksX2_sign_0 22 rfl rfl
theorem dksX2_sign_2 : cX2_sign.data.toList.drop 46 = dktX2_sign_2 := dk_seg dksX2_sign_1 24 rfl rfl
theorem dX2_sign_0 : decode cX2_sign 0 = .ok (.aload_n 0, 1) := dk_42 (dk_at dksX2_sign_0 0 rfl rfl)
theorem dX2_sign_1 : decode cX2_sign 1 = .ok (.getfield 68, 3) := dk_180 0 68 (dk_at dksX2_sign_0 1 rfl rfl)
theorem dX2_sign_4 : decode cX2_sign 4 = .ok (.aload_n 0, 1) := dk_42 (dk_at dksX2_sign_0 4 rfl rfl)
theorem dX2_sign_5 : decode cX2_sign 5 = .ok (.getfield 71, 3) := dk_180 0 71 (dk_at dksX2_sign_0 5 rfl rfl)
theorem dX2_sign_8 : decode cX2_sign 8 = .ok (.if_icmp .ge 30, 3) := dk_162 0 30 (dk_at dksX2_sign_0 8 rfl rfl)
theorem dX2_sign_11 : decode cX2_sign 11 = .ok (.aload_n 0, 1) := dk_42 (dk_at dksX2_sign_0 11 rfl rfl)
theorem dX2_sign_12 : decode cX2_sign 12 = .ok (.getfield 9, 3) := dk_180 0 9 (dk_at dksX2_sign_0 12 rfl rfl)
theorem dX2_sign_15 : decode cX2_sign 15 = .ok (.aload_n 0, 1) := dk_42 (dk_at dksX2_sign_0 15 rfl rfl)
theorem dX2_sign_16 : decode cX2_sign 16 = .ok (.getfield 68, 3) := dk_180 0 68 (dk_at dksX2_sign_0 16 rfl rfl)
theorem dX2_sign_19 : decode cX2_sign 19 = .ok (.baload, 1) := dk_51 (dk_at dksX2_sign_0 19 rfl rfl)
theorem dX2_sign_20 : decode cX2_sign 20 = .ok (.bipush 32, 2) := dk_16 32 (dk_at dksX2_sign_0 20 rfl rfl)
theorem dX2_sign_22 : decode cX2_sign 22 = .ok (.if_icmp .ne 16, 3) := dk_160 0 16 (dk_at dksX2_sign_1 0 rfl rfl)
theorem dX2_sign_25 : decode cX2_sign 25 = .ok (.aload_n 0, 1) := dk_42 (dk_at dksX2_sign_1 3 rfl rfl)
theorem dX2_sign_26 : decode cX2_sign 26 = .ok (.dup, 1) := dk_89 (dk_at dksX2_sign_1 4 rfl rfl)
theorem dX2_sign_27 : decode cX2_sign 27 = .ok (.getfield 68, 3) := dk_180 0 68 (dk_at dksX2_sign_1 5 rfl rfl)
theorem dX2_sign_30 : decode cX2_sign 30 = .ok (.iconst 1, 1) := dk_4 (dk_at dksX2_sign_1 8 rfl rfl)
theorem dX2_sign_31 : decode cX2_sign 31 = .ok (.iadd, 1) := dk_96 (dk_at dksX2_sign_1 9 rfl rfl)
theorem dX2_sign_32 : decode cX2_sign 32 = .ok (.putfield 68, 3) := dk_181 0 68 (dk_at dksX2_sign_1 10 rfl rfl)
theorem dX2_sign_35 : decode cX2_sign 35 = .ok (.goto (-35), 3) := dk_167 255 221 (dk_at dksX2_sign_1 13 rfl rfl)
theorem dX2_sign_38 : decode cX2_sign 38 = .ok (.aload_n 0, 1) := dk_42 (dk_at dksX2_sign_1 16 rfl rfl)
theorem dX2_sign_39 : decode cX2_sign 39 = .ok (.getfield 68, 3) := dk_180 0 68 (dk_at dksX2_sign_1 17 rfl rfl)
theorem dX2_sign_42 : decode cX2_sign 42 = .ok (.aload_n 0, 1) := dk_42 (dk_at dksX2_sign_1 20 rfl rfl)
theorem dX2_sign_43 : decode cX2_sign 43 = .ok (.getfield 71, 3) := dk_180 0 71 (dk_at dksX2_sign_1 21 rfl rfl)
theorem dX2_sign_46 : decode cX2_sign 46 = .ok (.if_icmp .ge 19, 3) := dk_162 0 19 (dk_at dksX2_sign_2 0 rfl rfl)
theorem dX2_sign_49 : decode cX2_sign 49 = .ok (.aload_n 0, 1) := dk_42 (dk_at dksX2_sign_2 3 rfl rfl)
theorem dX2_sign_50 : decode cX2_sign 50 = .ok (.getfield 9, 3) := dk_180 0 9 (dk_at dksX2_sign_2 4 rfl rfl)
theorem dX2_sign_53 : decode cX2_sign 53 = .ok (.aload_n 0, 1) := dk_42 (dk_at dksX2_sign_2 7 rfl rfl)
theorem dX2_sign_54 : decode cX2_sign 54 = .ok (.getfield 68, 3) := dk_180 0 68 (dk_at dksX2_sign_2 8 rfl rfl)
theorem dX2_sign_57 : decode cX2_sign 57 = .ok (.baload, 1) := dk_51 (dk_at dksX2_sign_2 11 rfl rfl)
theorem dX2_sign_58 : decode cX2_sign 58 = .ok (.sipush 255, 3) := dk_17 0 255 (dk_at dksX2_sign_2 12 rfl rfl)
theorem dX2_sign_61 : decode cX2_sign 61 = .ok (.iand, 1) := dk_126 (dk_at dksX2_sign_2 15 rfl rfl)
theorem dX2_sign_62 : decode cX2_sign 62 = .ok (.goto 4, 3) := dk_167 0 4 (dk_at dksX2_sign_2 16 rfl rfl)
theorem dX2_sign_65 : decode cX2_sign 65 = .ok (.iconst (-1), 1) := dk_2 (dk_at dksX2_sign_2 19 rfl rfl)
theorem dX2_sign_66 : decode cX2_sign 66 = .ok (.ireturn, 1) := dk_172 (dk_at dksX2_sign_2 20 rfl rfl)
abbrev cX2_fail : ByteArray := prog_8_method_2_code
def yX2_fail : MethodName := ⟨RX2, "fail", "(I)V"⟩
def dkwX2_fail_0 : List UInt8 := [42, 180, 0, 60, 27, 181, 0, 64, 42, 180, 0, 60, 191]
abbrev dktX2_fail_0 : List UInt8 := dkwX2_fail_0 ++ []
theorem dksX2_fail_0 : cX2_fail.data.toList.drop 0 = dktX2_fail_0 := by decide +kernel
theorem dX2_fail_0 : decode cX2_fail 0 = .ok (.aload_n 0, 1) := dk_42 (dk_at dksX2_fail_0 0 rfl rfl)
theorem dX2_fail_1 : decode cX2_fail 1 = .ok (.getfield 60, 3) := dk_180 0 60 (dk_at dksX2_fail_0 1 rfl rfl)
theorem dX2_fail_4 : decode cX2_fail 4 = .ok (.iload_n 1, 1) := dk_27 (dk_at dksX2_fail_0 4 rfl rfl)
theorem dX2_fail_5 : decode cX2_fail 5 = .ok (.putfield 64, 3) := dk_181 0 64 (dk_at dksX2_fail_0 5 rfl rfl)
theorem dX2_fail_8 : decode cX2_fail 8 = .ok (.aload_n 0, 1) := dk_42 (dk_at dksX2_fail_0 8 rfl rfl)
theorem dX2_fail_9 : decode cX2_fail 9 = .ok (.getfield 60, 3) := dk_180 0 60 (dk_at dksX2_fail_0 9 rfl rfl)
theorem dX2_fail_12 : decode cX2_fail 12 = .ok (.athrow, 1) := dk_191 (dk_at dksX2_fail_0 12 rfl rfl)
abbrev cX2_line : ByteArray := prog_8_method_13_code
def yX2_line : MethodName := ⟨RX2, "line", "()V"⟩
def dkwX2_line_4 : List UInt8 := [18, 135, 182, 0, 96, 42, 180, 0, 53, 42, 3, 17, 3, 231, 182, 0, 100, 181, 0, 137, 177]
abbrev dktX2_line_4 : List UInt8 := dkwX2_line_4 ++ []
def dkwX2_line_3 : List UInt8 := [182, 0, 85, 153, 0, 20, 42, 180, 0, 53, 42, 3, 16, 100, 182, 0, 100, 181, 0, 133, 167, 0, 24, 42]
abbrev dktX2_line_3 : List UInt8 := dkwX2_line_3 ++ dktX2_line_4
def dkwX2_line_2 : List UInt8 := [153, 0, 20, 42, 180, 0, 53, 42, 3, 16, 50, 182, 0, 100, 181, 0, 129, 167, 0, 50, 42, 18, 131]
abbrev dktX2_line_2 : List UInt8 := dkwX2_line_2 ++ dktX2_line_3
def dkwX2_line_1 : List UInt8 := [18, 19, 182, 0, 85, 153, 0, 11, 42, 27, 182, 0, 124, 167, 0, 76, 42, 18, 127, 182, 0, 85]
abbrev dktX2_line_1 : List UInt8 := dkwX2_line_1 ++ dktX2_line_2
def dkwX2_line_0 : List UInt8 := [42, 180, 0, 68, 60, 42, 18, 17, 182, 0, 85, 153, 0, 11, 42, 27, 182, 0, 121, 167, 0, 93, 42]
abbrev dktX2_line_0 : List UInt8 := dkwX2_line_0 ++ dktX2_line_1
theorem dksX2_line_0 : cX2_line.data.toList.drop 0 = dktX2_line_0 := by decide +kernel
theorem dksX2_line_1 : cX2_line.data.toList.drop 23 = dktX2_line_1 := dk_seg dksX2_line_0 23 rfl rfl
theorem dksX2_line_2 : cX2_line.data.toList.drop 45 = dktX2_line_2 := dk_seg dksX2_line_1 22 rfl rfl
theorem dksX2_line_3 : cX2_line.data.toList.drop 68 = dktX2_line_3 := dk_seg dksX2_line_2 23 rfl rfl
theorem dksX2_line_4 : cX2_line.data.toList.drop 92 = dktX2_line_4 := dk_seg dksX2_line_3 24 rfl rfl
theorem dX2_line_0 : decode cX2_line 0 = .ok (.aload_n 0, 1) := dk_42 (dk_at dksX2_line_0 0 rfl rfl)
theorem dX2_line_1 : decode cX2_line 1 = .ok (.getfield 68, 3) := dk_180 0 68 (dk_at dksX2_line_0 1 rfl rfl)
theorem dX2_line_4 : decode cX2_line 4 = .ok (.istore_n 1, 1) := dk_60 (dk_at dksX2_line_0 4 rfl rfl)
theorem dX2_line_5 : decode cX2_line 5 = .ok (.aload_n 0, 1) := dk_42 (dk_at dksX2_line_0 5 rfl rfl)
theorem dX2_line_6 : decode cX2_line 6 = .ok (.ldc 17, 2) := dk_18 17 (dk_at dksX2_line_0 6 rfl rfl)
theorem dX2_line_8 : decode cX2_line 8 = .ok (.invokevirtual 85, 3) := dk_182 0 85 (dk_at dksX2_line_0 8 rfl rfl)
theorem dX2_line_11 : decode cX2_line 11 = .ok (.ifCond .eq 11, 3) := dk_153 0 11 (dk_at dksX2_line_0 11 rfl rfl)
theorem dX2_line_14 : decode cX2_line 14 = .ok (.aload_n 0, 1) := dk_42 (dk_at dksX2_line_0 14 rfl rfl)
theorem dX2_line_15 : decode cX2_line 15 = .ok (.iload_n 1, 1) := dk_27 (dk_at dksX2_line_0 15 rfl rfl)
theorem dX2_line_16 : decode cX2_line 16 = .ok (.invokevirtual 121, 3) := dk_182 0 121 (dk_at dksX2_line_0 16 rfl rfl)
theorem dX2_line_19 : decode cX2_line 19 = .ok (.goto 93, 3) := dk_167 0 93 (dk_at dksX2_line_0 19 rfl rfl)
theorem dX2_line_22 : decode cX2_line 22 = .ok (.aload_n 0, 1) := dk_42 (dk_at dksX2_line_0 22 rfl rfl)
theorem dX2_line_23 : decode cX2_line 23 = .ok (.ldc 19, 2) := dk_18 19 (dk_at dksX2_line_1 0 rfl rfl)
theorem dX2_line_25 : decode cX2_line 25 = .ok (.invokevirtual 85, 3) := dk_182 0 85 (dk_at dksX2_line_1 2 rfl rfl)
theorem dX2_line_28 : decode cX2_line 28 = .ok (.ifCond .eq 11, 3) := dk_153 0 11 (dk_at dksX2_line_1 5 rfl rfl)
theorem dX2_line_31 : decode cX2_line 31 = .ok (.aload_n 0, 1) := dk_42 (dk_at dksX2_line_1 8 rfl rfl)
theorem dX2_line_32 : decode cX2_line 32 = .ok (.iload_n 1, 1) := dk_27 (dk_at dksX2_line_1 9 rfl rfl)
theorem dX2_line_33 : decode cX2_line 33 = .ok (.invokevirtual 124, 3) := dk_182 0 124 (dk_at dksX2_line_1 10 rfl rfl)
theorem dX2_line_36 : decode cX2_line 36 = .ok (.goto 76, 3) := dk_167 0 76 (dk_at dksX2_line_1 13 rfl rfl)
theorem dX2_line_39 : decode cX2_line 39 = .ok (.aload_n 0, 1) := dk_42 (dk_at dksX2_line_1 16 rfl rfl)
theorem dX2_line_40 : decode cX2_line 40 = .ok (.ldc 127, 2) := dk_18 127 (dk_at dksX2_line_1 17 rfl rfl)
theorem dX2_line_42 : decode cX2_line 42 = .ok (.invokevirtual 85, 3) := dk_182 0 85 (dk_at dksX2_line_1 19 rfl rfl)
theorem dX2_line_45 : decode cX2_line 45 = .ok (.ifCond .eq 20, 3) := dk_153 0 20 (dk_at dksX2_line_2 0 rfl rfl)
theorem dX2_line_48 : decode cX2_line 48 = .ok (.aload_n 0, 1) := dk_42 (dk_at dksX2_line_2 3 rfl rfl)
theorem dX2_line_49 : decode cX2_line 49 = .ok (.getfield 53, 3) := dk_180 0 53 (dk_at dksX2_line_2 4 rfl rfl)
theorem dX2_line_52 : decode cX2_line 52 = .ok (.aload_n 0, 1) := dk_42 (dk_at dksX2_line_2 7 rfl rfl)
theorem dX2_line_53 : decode cX2_line 53 = .ok (.iconst 0, 1) := dk_3 (dk_at dksX2_line_2 8 rfl rfl)
theorem dX2_line_54 : decode cX2_line 54 = .ok (.bipush 50, 2) := dk_16 50 (dk_at dksX2_line_2 9 rfl rfl)
theorem dX2_line_56 : decode cX2_line 56 = .ok (.invokevirtual 100, 3) := dk_182 0 100 (dk_at dksX2_line_2 11 rfl rfl)
theorem dX2_line_59 : decode cX2_line 59 = .ok (.putfield 129, 3) := dk_181 0 129 (dk_at dksX2_line_2 14 rfl rfl)
theorem dX2_line_62 : decode cX2_line 62 = .ok (.goto 50, 3) := dk_167 0 50 (dk_at dksX2_line_2 17 rfl rfl)
theorem dX2_line_65 : decode cX2_line 65 = .ok (.aload_n 0, 1) := dk_42 (dk_at dksX2_line_2 20 rfl rfl)
theorem dX2_line_66 : decode cX2_line 66 = .ok (.ldc 131, 2) := dk_18 131 (dk_at dksX2_line_2 21 rfl rfl)
theorem dX2_line_68 : decode cX2_line 68 = .ok (.invokevirtual 85, 3) := dk_182 0 85 (dk_at dksX2_line_3 0 rfl rfl)
theorem dX2_line_71 : decode cX2_line 71 = .ok (.ifCond .eq 20, 3) := dk_153 0 20 (dk_at dksX2_line_3 3 rfl rfl)
theorem dX2_line_74 : decode cX2_line 74 = .ok (.aload_n 0, 1) := dk_42 (dk_at dksX2_line_3 6 rfl rfl)
theorem dX2_line_75 : decode cX2_line 75 = .ok (.getfield 53, 3) := dk_180 0 53 (dk_at dksX2_line_3 7 rfl rfl)
theorem dX2_line_78 : decode cX2_line 78 = .ok (.aload_n 0, 1) := dk_42 (dk_at dksX2_line_3 10 rfl rfl)
theorem dX2_line_79 : decode cX2_line 79 = .ok (.iconst 0, 1) := dk_3 (dk_at dksX2_line_3 11 rfl rfl)
theorem dX2_line_80 : decode cX2_line 80 = .ok (.bipush 100, 2) := dk_16 100 (dk_at dksX2_line_3 12 rfl rfl)
theorem dX2_line_82 : decode cX2_line 82 = .ok (.invokevirtual 100, 3) := dk_182 0 100 (dk_at dksX2_line_3 14 rfl rfl)
theorem dX2_line_85 : decode cX2_line 85 = .ok (.putfield 133, 3) := dk_181 0 133 (dk_at dksX2_line_3 17 rfl rfl)
theorem dX2_line_88 : decode cX2_line 88 = .ok (.goto 24, 3) := dk_167 0 24 (dk_at dksX2_line_3 20 rfl rfl)
theorem dX2_line_91 : decode cX2_line 91 = .ok (.aload_n 0, 1) := dk_42 (dk_at dksX2_line_3 23 rfl rfl)
theorem dX2_line_92 : decode cX2_line 92 = .ok (.ldc 135, 2) := dk_18 135 (dk_at dksX2_line_4 0 rfl rfl)
theorem dX2_line_94 : decode cX2_line 94 = .ok (.invokevirtual 96, 3) := dk_182 0 96 (dk_at dksX2_line_4 2 rfl rfl)
theorem dX2_line_97 : decode cX2_line 97 = .ok (.aload_n 0, 1) := dk_42 (dk_at dksX2_line_4 5 rfl rfl)
theorem dX2_line_98 : decode cX2_line 98 = .ok (.getfield 53, 3) := dk_180 0 53 (dk_at dksX2_line_4 6 rfl rfl)
theorem dX2_line_101 : decode cX2_line 101 = .ok (.aload_n 0, 1) := dk_42 (dk_at dksX2_line_4 9 rfl rfl)
theorem dX2_line_102 : decode cX2_line 102 = .ok (.iconst 0, 1) := dk_3 (dk_at dksX2_line_4 10 rfl rfl)
theorem dX2_line_103 : decode cX2_line 103 = .ok (.sipush 999, 3) := dk_17 3 231 (dk_at dksX2_line_4 11 rfl rfl)
theorem dX2_line_106 : decode cX2_line 106 = .ok (.invokevirtual 100, 3) := dk_182 0 100 (dk_at dksX2_line_4 14 rfl rfl)
theorem dX2_line_109 : decode cX2_line 109 = .ok (.putfield 137, 3) := dk_181 0 137 (dk_at dksX2_line_4 17 rfl rfl)
theorem dX2_line_112 : decode cX2_line 112 = .ok (.return_, 1) := dk_177 (dk_at dksX2_line_4 20 rfl rfl)
abbrev cX2_takes : ByteArray := prog_8_method_6_code
def yX2_takes : MethodName := ⟨RX2, "takes", "(Ljava/lang/String;)Z"⟩
def dkwX2_takes_5 : List UInt8 := [153, 0, 8, 42, 29, 181, 0, 68, 21, 4, 172]
abbrev dktX2_takes_5 : List UInt8 := dkwX2_takes_5 ++ []
def dkwX2_takes_4 : List UInt8 := [21, 5, 182, 0, 81, 160, 0, 7, 4, 167, 0, 4, 3, 54, 4, 132, 5, 1, 167, 255, 211, 21, 4]
abbrev dktX2_takes_4 : List UInt8 := dkwX2_takes_4 ++ dktX2_takes_5
def dkwX2_takes_3 : List UInt8 := [182, 0, 78, 162, 0, 42, 21, 4, 153, 0, 37, 42, 180, 0, 9, 42, 180, 0, 68, 21, 5, 96, 51, 43]
abbrev dktX2_takes_3 : List UInt8 := dkwX2_takes_3 ++ dktX2_takes_4
def dkwX2_takes_2 : List UInt8 := [180, 0, 68, 100, 43, 182, 0, 78, 160, 0, 7, 4, 167, 0, 4, 3, 54, 4, 3, 54, 5, 21, 5, 43]
abbrev dktX2_takes_2 : List UInt8 := dkwX2_takes_2 ++ dktX2_takes_3
def dkwX2_takes_1 : List UInt8 := [16, 97, 161, 0, 20, 42, 180, 0, 9, 29, 51, 16, 122, 163, 0, 9, 132, 3, 1, 167, 255, 223, 29, 42]
abbrev dktX2_takes_1 : List UInt8 := dkwX2_takes_1 ++ dktX2_takes_2
def dkwX2_takes_0 : List UInt8 := [42, 182, 0, 74, 61, 42, 180, 0, 68, 62, 29, 42, 180, 0, 71, 162, 0, 31, 42, 180, 0, 9, 29, 51]
abbrev dktX2_takes_0 : List UInt8 := dkwX2_takes_0 ++ dktX2_takes_1
theorem dksX2_takes_0 : cX2_takes.data.toList.drop 0 = dktX2_takes_0 := by decide +kernel
theorem dksX2_takes_1 : cX2_takes.data.toList.drop 24 = dktX2_takes_1 := dk_seg dksX2_takes_0 24 rfl rfl
theorem dksX2_takes_2 : cX2_takes.data.toList.drop 48 = dktX2_takes_2 := dk_seg dksX2_takes_1 24 rfl rfl
theorem dksX2_takes_3 : cX2_takes.data.toList.drop 72 = dktX2_takes_3 := dk_seg dksX2_takes_2 24 rfl rfl
theorem dksX2_takes_4 : cX2_takes.data.toList.drop 96 = dktX2_takes_4 := dk_seg dksX2_takes_3 24 rfl rfl
theorem dksX2_takes_5 : cX2_takes.data.toList.drop 119 = dktX2_takes_5 := dk_seg dksX2_takes_4 23 rfl rfl
theorem dX2_takes_0 : decode cX2_takes 0 = .ok (.aload_n 0, 1) := dk_42 (dk_at dksX2_takes_0 0 rfl rfl)
theorem dX2_takes_1 : decode cX2_takes 1 = .ok (.invokevirtual 74, 3) := dk_182 0 74 (dk_at dksX2_takes_0 1 rfl rfl)
theorem dX2_takes_4 : decode cX2_takes 4 = .ok (.istore_n 2, 1) := dk_61 (dk_at dksX2_takes_0 4 rfl rfl)
theorem dX2_takes_5 : decode cX2_takes 5 = .ok (.aload_n 0, 1) := dk_42 (dk_at dksX2_takes_0 5 rfl rfl)
theorem dX2_takes_6 : decode cX2_takes 6 = .ok (.getfield 68, 3) := dk_180 0 68 (dk_at dksX2_takes_0 6 rfl rfl)
theorem dX2_takes_9 : decode cX2_takes 9 = .ok (.istore_n 3, 1) := dk_62 (dk_at dksX2_takes_0 9 rfl rfl)
theorem dX2_takes_10 : decode cX2_takes 10 = .ok (.iload_n 3, 1) := dk_29 (dk_at dksX2_takes_0 10 rfl rfl)
theorem dX2_takes_11 : decode cX2_takes 11 = .ok (.aload_n 0, 1) := dk_42 (dk_at dksX2_takes_0 11 rfl rfl)
theorem dX2_takes_12 : decode cX2_takes 12 = .ok (.getfield 71, 3) := dk_180 0 71 (dk_at dksX2_takes_0 12 rfl rfl)
theorem dX2_takes_15 : decode cX2_takes 15 = .ok (.if_icmp .ge 31, 3) := dk_162 0 31 (dk_at dksX2_takes_0 15 rfl rfl)
theorem dX2_takes_18 : decode cX2_takes 18 = .ok (.aload_n 0, 1) := dk_42 (dk_at dksX2_takes_0 18 rfl rfl)
theorem dX2_takes_19 : decode cX2_takes 19 = .ok (.getfield 9, 3) := dk_180 0 9 (dk_at dksX2_takes_0 19 rfl rfl)
theorem dX2_takes_22 : decode cX2_takes 22 = .ok (.iload_n 3, 1) := dk_29 (dk_at dksX2_takes_0 22 rfl rfl)
theorem dX2_takes_23 : decode cX2_takes 23 = .ok (.baload, 1) := dk_51 (dk_at dksX2_takes_0 23 rfl rfl)
theorem dX2_takes_24 : decode cX2_takes 24 = .ok (.bipush 97, 2) := dk_16 97 (dk_at dksX2_takes_1 0 rfl rfl)
theorem dX2_takes_26 : decode cX2_takes 26 = .ok (.if_icmp .lt 20, 3) := dk_161 0 20 (dk_at dksX2_takes_1 2 rfl rfl)
theorem dX2_takes_29 : decode cX2_takes 29 = .ok (.aload_n 0, 1) := dk_42 (dk_at dksX2_takes_1 5 rfl rfl)
theorem dX2_takes_30 : decode cX2_takes 30 = .ok (.getfield 9, 3) := dk_180 0 9 (dk_at dksX2_takes_1 6 rfl rfl)
theorem dX2_takes_33 : decode cX2_takes 33 = .ok (.iload_n 3, 1) := dk_29 (dk_at dksX2_takes_1 9 rfl rfl)
theorem dX2_takes_34 : decode cX2_takes 34 = .ok (.baload, 1) := dk_51 (dk_at dksX2_takes_1 10 rfl rfl)
theorem dX2_takes_35 : decode cX2_takes 35 = .ok (.bipush 122, 2) := dk_16 122 (dk_at dksX2_takes_1 11 rfl rfl)
theorem dX2_takes_37 : decode cX2_takes 37 = .ok (.if_icmp .gt 9, 3) := dk_163 0 9 (dk_at dksX2_takes_1 13 rfl rfl)
theorem dX2_takes_40 : decode cX2_takes 40 = .ok (.iinc 3 1, 3) := dk_132 3 1 (dk_at dksX2_takes_1 16 rfl rfl)
theorem dX2_takes_43 : decode cX2_takes 43 = .ok (.goto (-33), 3) := dk_167 255 223 (dk_at dksX2_takes_1 19 rfl rfl)
theorem dX2_takes_46 : decode cX2_takes 46 = .ok (.iload_n 3, 1) := dk_29 (dk_at dksX2_takes_1 22 rfl rfl)
theorem dX2_takes_47 : decode cX2_takes 47 = .ok (.aload_n 0, 1) := dk_42 (dk_at dksX2_takes_1 23 rfl rfl)
theorem dX2_takes_48 : decode cX2_takes 48 = .ok (.getfield 68, 3) := dk_180 0 68 (dk_at dksX2_takes_2 0 rfl rfl)
theorem dX2_takes_51 : decode cX2_takes 51 = .ok (.isub, 1) := dk_100 (dk_at dksX2_takes_2 3 rfl rfl)
theorem dX2_takes_52 : decode cX2_takes 52 = .ok (.aload_n 1, 1) := dk_43 (dk_at dksX2_takes_2 4 rfl rfl)
theorem dX2_takes_53 : decode cX2_takes 53 = .ok (.invokevirtual 78, 3) := dk_182 0 78 (dk_at dksX2_takes_2 5 rfl rfl)
theorem dX2_takes_56 : decode cX2_takes 56 = .ok (.if_icmp .ne 7, 3) := dk_160 0 7 (dk_at dksX2_takes_2 8 rfl rfl)
theorem dX2_takes_59 : decode cX2_takes 59 = .ok (.iconst 1, 1) := dk_4 (dk_at dksX2_takes_2 11 rfl rfl)
theorem dX2_takes_60 : decode cX2_takes 60 = .ok (.goto 4, 3) := dk_167 0 4 (dk_at dksX2_takes_2 12 rfl rfl)
theorem dX2_takes_63 : decode cX2_takes 63 = .ok (.iconst 0, 1) := dk_3 (dk_at dksX2_takes_2 15 rfl rfl)
theorem dX2_takes_64 : decode cX2_takes 64 = .ok (.istore 4, 2) := dk_54 4 (dk_at dksX2_takes_2 16 rfl rfl)
theorem dX2_takes_66 : decode cX2_takes 66 = .ok (.iconst 0, 1) := dk_3 (dk_at dksX2_takes_2 18 rfl rfl)
theorem dX2_takes_67 : decode cX2_takes 67 = .ok (.istore 5, 2) := dk_54 5 (dk_at dksX2_takes_2 19 rfl rfl)
theorem dX2_takes_69 : decode cX2_takes 69 = .ok (.iload 5, 2) := dk_21 5 (dk_at dksX2_takes_2 21 rfl rfl)
theorem dX2_takes_71 : decode cX2_takes 71 = .ok (.aload_n 1, 1) := dk_43 (dk_at dksX2_takes_2 23 rfl rfl)
theorem dX2_takes_72 : decode cX2_takes 72 = .ok (.invokevirtual 78, 3) := dk_182 0 78 (dk_at dksX2_takes_3 0 rfl rfl)
theorem dX2_takes_75 : decode cX2_takes 75 = .ok (.if_icmp .ge 42, 3) := dk_162 0 42 (dk_at dksX2_takes_3 3 rfl rfl)
theorem dX2_takes_78 : decode cX2_takes 78 = .ok (.iload 4, 2) := dk_21 4 (dk_at dksX2_takes_3 6 rfl rfl)
theorem dX2_takes_80 : decode cX2_takes 80 = .ok (.ifCond .eq 37, 3) := dk_153 0 37 (dk_at dksX2_takes_3 8 rfl rfl)
theorem dX2_takes_83 : decode cX2_takes 83 = .ok (.aload_n 0, 1) := dk_42 (dk_at dksX2_takes_3 11 rfl rfl)
theorem dX2_takes_84 : decode cX2_takes 84 = .ok (.getfield 9, 3) := dk_180 0 9 (dk_at dksX2_takes_3 12 rfl rfl)
theorem dX2_takes_87 : decode cX2_takes 87 = .ok (.aload_n 0, 1) := dk_42 (dk_at dksX2_takes_3 15 rfl rfl)
theorem dX2_takes_88 : decode cX2_takes 88 = .ok (.getfield 68, 3) := dk_180 0 68 (dk_at dksX2_takes_3 16 rfl rfl)
theorem dX2_takes_91 : decode cX2_takes 91 = .ok (.iload 5, 2) := dk_21 5 (dk_at dksX2_takes_3 19 rfl rfl)
theorem dX2_takes_93 : decode cX2_takes 93 = .ok (.iadd, 1) := dk_96 (dk_at dksX2_takes_3 21 rfl rfl)
theorem dX2_takes_94 : decode cX2_takes 94 = .ok (.baload, 1) := dk_51 (dk_at dksX2_takes_3 22 rfl rfl)
theorem dX2_takes_95 : decode cX2_takes 95 = .ok (.aload_n 1, 1) := dk_43 (dk_at dksX2_takes_3 23 rfl rfl)
theorem dX2_takes_96 : decode cX2_takes 96 = .ok (.iload 5, 2) := dk_21 5 (dk_at dksX2_takes_4 0 rfl rfl)
theorem dX2_takes_98 : decode cX2_takes 98 = .ok (.invokevirtual 81, 3) := dk_182 0 81 (dk_at dksX2_takes_4 2 rfl rfl)
theorem dX2_takes_101 : decode cX2_takes 101 = .ok (.if_icmp .ne 7, 3) := dk_160 0 7 (dk_at dksX2_takes_4 5 rfl rfl)
theorem dX2_takes_104 : decode cX2_takes 104 = .ok (.iconst 1, 1) := dk_4 (dk_at dksX2_takes_4 8 rfl rfl)
theorem dX2_takes_105 : decode cX2_takes 105 = .ok (.goto 4, 3) := dk_167 0 4 (dk_at dksX2_takes_4 9 rfl rfl)
theorem dX2_takes_108 : decode cX2_takes 108 = .ok (.iconst 0, 1) := dk_3 (dk_at dksX2_takes_4 12 rfl rfl)
theorem dX2_takes_109 : decode cX2_takes 109 = .ok (.istore 4, 2) := dk_54 4 (dk_at dksX2_takes_4 13 rfl rfl)
theorem dX2_takes_111 : decode cX2_takes 111 = .ok (.iinc 5 1, 3) := dk_132 5 1 (dk_at dksX2_takes_4 15 rfl rfl)
theorem dX2_takes_114 : decode cX2_takes 114 = .ok (.goto (-45), 3) := dk_167 255 211 (dk_at dksX2_takes_4 18 rfl rfl)
theorem dX2_takes_117 : decode cX2_takes 117 = .ok (.iload 4, 2) := dk_21 4 (dk_at dksX2_takes_4 21 rfl rfl)
theorem dX2_takes_119 : decode cX2_takes 119 = .ok (.ifCond .eq 8, 3) := dk_153 0 8 (dk_at dksX2_takes_5 0 rfl rfl)
theorem dX2_takes_122 : decode cX2_takes 122 = .ok (.aload_n 0, 1) := dk_42 (dk_at dksX2_takes_5 3 rfl rfl)
theorem dX2_takes_123 : decode cX2_takes 123 = .ok (.iload_n 3, 1) := dk_29 (dk_at dksX2_takes_5 4 rfl rfl)
theorem dX2_takes_124 : decode cX2_takes 124 = .ok (.putfield 68, 3) := dk_181 0 68 (dk_at dksX2_takes_5 5 rfl rfl)
theorem dX2_takes_127 : decode cX2_takes 127 = .ok (.iload 4, 2) := dk_21 4 (dk_at dksX2_takes_5 8 rfl rfl)
theorem dX2_takes_129 : decode cX2_takes 129 = .ok (.ireturn, 1) := dk_172 (dk_at dksX2_takes_5 10 rfl rfl)
abbrev cX2_addWoman : ByteArray := prog_8_method_15_code
def yX2_addWoman : MethodName := ⟨RX2, "addWoman", "(I)V"⟩
def dkwX2_addWoman_4 : List UInt8 := [89, 180, 0, 139, 4, 96, 181, 0, 139, 177]
abbrev dktX2_addWoman_4 : List UInt8 := dkwX2_addWoman_4 ++ []
def dkwX2_addWoman_3 : List UInt8 := [182, 0, 100, 167, 0, 4, 3, 181, 0, 164, 44, 42, 18, 35, 182, 0, 85, 181, 0, 166, 42, 180, 0, 53]
abbrev dktX2_addWoman_3 : List UInt8 := dkwX2_addWoman_3 ++ dktX2_addWoman_4
def dkwX2_addWoman_2 : List UInt8 := [17, 3, 231, 182, 0, 158, 181, 0, 162, 44, 42, 18, 25, 182, 0, 85, 153, 0, 13, 42, 3, 16, 9]
abbrev dktX2_addWoman_2 : List UInt8 := dkwX2_addWoman_2 ++ dktX2_addWoman_3
def dkwX2_addWoman_1 : List UInt8 := [42, 180, 0, 53, 180, 0, 139, 50, 77, 42, 44, 180, 0, 146, 182, 0, 152, 44, 42, 18, 156, 3]
abbrev dktX2_addWoman_1 : List UInt8 := dkwX2_addWoman_1 ++ dktX2_addWoman_2
def dkwX2_addWoman_0 : List UInt8 := [42, 180, 0, 53, 180, 0, 139, 16, 8, 160, 0, 8, 42, 27, 182, 0, 89, 42, 180, 0, 53, 180, 0, 142]
abbrev dktX2_addWoman_0 : List UInt8 := dkwX2_addWoman_0 ++ dktX2_addWoman_1
theorem dksX2_addWoman_0 : cX2_addWoman.data.toList.drop 0 = dktX2_addWoman_0 := by decide +kernel
theorem dksX2_addWoman_1 : cX2_addWoman.data.toList.drop 24 = dktX2_addWoman_1 := dk_seg dksX2_addWoman_0 24 rfl rfl
theorem dksX2_addWoman_2 : cX2_addWoman.data.toList.drop 46 = dktX2_addWoman_2 := dk_seg dksX2_addWoman_1 22 rfl rfl
theorem dksX2_addWoman_3 : cX2_addWoman.data.toList.drop 69 = dktX2_addWoman_3 := dk_seg dksX2_addWoman_2 23 rfl rfl
theorem dksX2_addWoman_4 : cX2_addWoman.data.toList.drop 93 = dktX2_addWoman_4 := dk_seg dksX2_addWoman_3 24 rfl rfl
theorem dX2_addWoman_0 : decode cX2_addWoman 0 = .ok (.aload_n 0, 1) := dk_42 (dk_at dksX2_addWoman_0 0 rfl rfl)
theorem dX2_addWoman_1 : decode cX2_addWoman 1 = .ok (.getfield 53, 3) := dk_180 0 53 (dk_at dksX2_addWoman_0 1 rfl rfl)
theorem dX2_addWoman_4 : decode cX2_addWoman 4 = .ok (.getfield 139, 3) := dk_180 0 139 (dk_at dksX2_addWoman_0 4 rfl rfl)
theorem dX2_addWoman_7 : decode cX2_addWoman 7 = .ok (.bipush 8, 2) := dk_16 8 (dk_at dksX2_addWoman_0 7 rfl rfl)
theorem dX2_addWoman_9 : decode cX2_addWoman 9 = .ok (.if_icmp .ne 8, 3) := dk_160 0 8 (dk_at dksX2_addWoman_0 9 rfl rfl)
theorem dX2_addWoman_12 : decode cX2_addWoman 12 = .ok (.aload_n 0, 1) := dk_42 (dk_at dksX2_addWoman_0 12 rfl rfl)
theorem dX2_addWoman_13 : decode cX2_addWoman 13 = .ok (.iload_n 1, 1) := dk_27 (dk_at dksX2_addWoman_0 13 rfl rfl)
theorem dX2_addWoman_14 : decode cX2_addWoman 14 = .ok (.invokevirtual 89, 3) := dk_182 0 89 (dk_at dksX2_addWoman_0 14 rfl rfl)
theorem dX2_addWoman_17 : decode cX2_addWoman 17 = .ok (.aload_n 0, 1) := dk_42 (dk_at dksX2_addWoman_0 17 rfl rfl)
theorem dX2_addWoman_18 : decode cX2_addWoman 18 = .ok (.getfield 53, 3) := dk_180 0 53 (dk_at dksX2_addWoman_0 18 rfl rfl)
theorem dX2_addWoman_21 : decode cX2_addWoman 21 = .ok (.getfield 142, 3) := dk_180 0 142 (dk_at dksX2_addWoman_0 21 rfl rfl)
theorem dX2_addWoman_24 : decode cX2_addWoman 24 = .ok (.aload_n 0, 1) := dk_42 (dk_at dksX2_addWoman_1 0 rfl rfl)
theorem dX2_addWoman_25 : decode cX2_addWoman 25 = .ok (.getfield 53, 3) := dk_180 0 53 (dk_at dksX2_addWoman_1 1 rfl rfl)
theorem dX2_addWoman_28 : decode cX2_addWoman 28 = .ok (.getfield 139, 3) := dk_180 0 139 (dk_at dksX2_addWoman_1 4 rfl rfl)
theorem dX2_addWoman_31 : decode cX2_addWoman 31 = .ok (.aaload, 1) := dk_50 (dk_at dksX2_addWoman_1 7 rfl rfl)
theorem dX2_addWoman_32 : decode cX2_addWoman 32 = .ok (.astore_n 2, 1) := dk_77 (dk_at dksX2_addWoman_1 8 rfl rfl)
theorem dX2_addWoman_33 : decode cX2_addWoman 33 = .ok (.aload_n 0, 1) := dk_42 (dk_at dksX2_addWoman_1 9 rfl rfl)
theorem dX2_addWoman_34 : decode cX2_addWoman 34 = .ok (.aload_n 2, 1) := dk_44 (dk_at dksX2_addWoman_1 10 rfl rfl)
theorem dX2_addWoman_35 : decode cX2_addWoman 35 = .ok (.getfield 146, 3) := dk_180 0 146 (dk_at dksX2_addWoman_1 11 rfl rfl)
theorem dX2_addWoman_38 : decode cX2_addWoman 38 = .ok (.invokevirtual 152, 3) := dk_182 0 152 (dk_at dksX2_addWoman_1 14 rfl rfl)
theorem dX2_addWoman_41 : decode cX2_addWoman 41 = .ok (.aload_n 2, 1) := dk_44 (dk_at dksX2_addWoman_1 17 rfl rfl)
theorem dX2_addWoman_42 : decode cX2_addWoman 42 = .ok (.aload_n 0, 1) := dk_42 (dk_at dksX2_addWoman_1 18 rfl rfl)
theorem dX2_addWoman_43 : decode cX2_addWoman 43 = .ok (.ldc 156, 2) := dk_18 156 (dk_at dksX2_addWoman_1 19 rfl rfl)
theorem dX2_addWoman_45 : decode cX2_addWoman 45 = .ok (.iconst 0, 1) := dk_3 (dk_at dksX2_addWoman_1 21 rfl rfl)
theorem dX2_addWoman_46 : decode cX2_addWoman 46 = .ok (.sipush 999, 3) := dk_17 3 231 (dk_at dksX2_addWoman_2 0 rfl rfl)
theorem dX2_addWoman_49 : decode cX2_addWoman 49 = .ok (.invokevirtual 158, 3) := dk_182 0 158 (dk_at dksX2_addWoman_2 3 rfl rfl)
theorem dX2_addWoman_52 : decode cX2_addWoman 52 = .ok (.putfield 162, 3) := dk_181 0 162 (dk_at dksX2_addWoman_2 6 rfl rfl)
theorem dX2_addWoman_55 : decode cX2_addWoman 55 = .ok (.aload_n 2, 1) := dk_44 (dk_at dksX2_addWoman_2 9 rfl rfl)
theorem dX2_addWoman_56 : decode cX2_addWoman 56 = .ok (.aload_n 0, 1) := dk_42 (dk_at dksX2_addWoman_2 10 rfl rfl)
theorem dX2_addWoman_57 : decode cX2_addWoman 57 = .ok (.ldc 25, 2) := dk_18 25 (dk_at dksX2_addWoman_2 11 rfl rfl)
theorem dX2_addWoman_59 : decode cX2_addWoman 59 = .ok (.invokevirtual 85, 3) := dk_182 0 85 (dk_at dksX2_addWoman_2 13 rfl rfl)
theorem dX2_addWoman_62 : decode cX2_addWoman 62 = .ok (.ifCond .eq 13, 3) := dk_153 0 13 (dk_at dksX2_addWoman_2 16 rfl rfl)
theorem dX2_addWoman_65 : decode cX2_addWoman 65 = .ok (.aload_n 0, 1) := dk_42 (dk_at dksX2_addWoman_2 19 rfl rfl)
theorem dX2_addWoman_66 : decode cX2_addWoman 66 = .ok (.iconst 0, 1) := dk_3 (dk_at dksX2_addWoman_2 20 rfl rfl)
theorem dX2_addWoman_67 : decode cX2_addWoman 67 = .ok (.bipush 9, 2) := dk_16 9 (dk_at dksX2_addWoman_2 21 rfl rfl)
theorem dX2_addWoman_69 : decode cX2_addWoman 69 = .ok (.invokevirtual 100, 3) := dk_182 0 100 (dk_at dksX2_addWoman_3 0 rfl rfl)
theorem dX2_addWoman_72 : decode cX2_addWoman 72 = .ok (.goto 4, 3) := dk_167 0 4 (dk_at dksX2_addWoman_3 3 rfl rfl)
theorem dX2_addWoman_75 : decode cX2_addWoman 75 = .ok (.iconst 0, 1) := dk_3 (dk_at dksX2_addWoman_3 6 rfl rfl)
theorem dX2_addWoman_76 : decode cX2_addWoman 76 = .ok (.putfield 164, 3) := dk_181 0 164 (dk_at dksX2_addWoman_3 7 rfl rfl)
theorem dX2_addWoman_79 : decode cX2_addWoman 79 = .ok (.aload_n 2, 1) := dk_44 (dk_at dksX2_addWoman_3 10 rfl rfl)
theorem dX2_addWoman_80 : decode cX2_addWoman 80 = .ok (.aload_n 0, 1) := dk_42 (dk_at dksX2_addWoman_3 11 rfl rfl)
theorem dX2_addWoman_81 : decode cX2_addWoman 81 = .ok (.ldc 35, 2) := dk_18 35 (dk_at dksX2_addWoman_3 12 rfl rfl)
theorem dX2_addWoman_83 : decode cX2_addWoman 83 = .ok (.invokevirtual 85, 3) := dk_182 0 85 (dk_at dksX2_addWoman_3 14 rfl rfl)
theorem dX2_addWoman_86 : decode cX2_addWoman 86 = .ok (.putfield 166, 3) := dk_181 0 166 (dk_at dksX2_addWoman_3 17 rfl rfl)
theorem dX2_addWoman_89 : decode cX2_addWoman 89 = .ok (.aload_n 0, 1) := dk_42 (dk_at dksX2_addWoman_3 20 rfl rfl)
theorem dX2_addWoman_90 : decode cX2_addWoman 90 = .ok (.getfield 53, 3) := dk_180 0 53 (dk_at dksX2_addWoman_3 21 rfl rfl)
theorem dX2_addWoman_93 : decode cX2_addWoman 93 = .ok (.dup, 1) := dk_89 (dk_at dksX2_addWoman_4 0 rfl rfl)
theorem dX2_addWoman_94 : decode cX2_addWoman 94 = .ok (.getfield 139, 3) := dk_180 0 139 (dk_at dksX2_addWoman_4 1 rfl rfl)
theorem dX2_addWoman_97 : decode cX2_addWoman 97 = .ok (.iconst 1, 1) := dk_4 (dk_at dksX2_addWoman_4 4 rfl rfl)
theorem dX2_addWoman_98 : decode cX2_addWoman 98 = .ok (.iadd, 1) := dk_96 (dk_at dksX2_addWoman_4 5 rfl rfl)
theorem dX2_addWoman_99 : decode cX2_addWoman 99 = .ok (.putfield 139, 3) := dk_181 0 139 (dk_at dksX2_addWoman_4 6 rfl rfl)
theorem dX2_addWoman_102 : decode cX2_addWoman 102 = .ok (.return_, 1) := dk_177 (dk_at dksX2_addWoman_4 9 rfl rfl)
abbrev cX2_quads : ByteArray := prog_8_method_14_code
def yX2_quads : MethodName := ⟨RX2, "quads", "([I)V"⟩
def dkwX2_quads_0 : List UInt8 := [3, 61, 28, 7, 162, 0, 19, 43, 28, 42, 3, 16, 99, 182, 0, 100, 79, 132, 2, 1, 167, 255, 238, 177]
abbrev dktX2_quads_0 : List UInt8 := dkwX2_quads_0 ++ []
theorem dksX2_quads_0 : cX2_quads.data.toList.drop 0 = dktX2_quads_0 := by decide +kernel
theorem dX2_quads_0 : decode cX2_quads 0 = .ok (.iconst 0, 1) := dk_3 (dk_at dksX2_quads_0 0 rfl rfl)
theorem dX2_quads_1 : decode cX2_quads 1 = .ok (.istore_n 2, 1) := dk_61 (dk_at dksX2_quads_0 1 rfl rfl)
theorem dX2_quads_2 : decode cX2_quads 2 = .ok (.iload_n 2, 1) := dk_28 (dk_at dksX2_quads_0 2 rfl rfl)
theorem dX2_quads_3 : decode cX2_quads 3 = .ok (.iconst 4, 1) := dk_7 (dk_at dksX2_quads_0 3 rfl rfl)
theorem dX2_quads_4 : decode cX2_quads 4 = .ok (.if_icmp .ge 19, 3) := dk_162 0 19 (dk_at dksX2_quads_0 4 rfl rfl)
theorem dX2_quads_7 : decode cX2_quads 7 = .ok (.aload_n 1, 1) := dk_43 (dk_at dksX2_quads_0 7 rfl rfl)
theorem dX2_quads_8 : decode cX2_quads 8 = .ok (.iload_n 2, 1) := dk_28 (dk_at dksX2_quads_0 8 rfl rfl)
theorem dX2_quads_9 : decode cX2_quads 9 = .ok (.aload_n 0, 1) := dk_42 (dk_at dksX2_quads_0 9 rfl rfl)
theorem dX2_quads_10 : decode cX2_quads 10 = .ok (.iconst 0, 1) := dk_3 (dk_at dksX2_quads_0 10 rfl rfl)
theorem dX2_quads_11 : decode cX2_quads 11 = .ok (.bipush 99, 2) := dk_16 99 (dk_at dksX2_quads_0 11 rfl rfl)
theorem dX2_quads_13 : decode cX2_quads 13 = .ok (.invokevirtual 100, 3) := dk_182 0 100 (dk_at dksX2_quads_0 13 rfl rfl)
theorem dX2_quads_16 : decode cX2_quads 16 = .ok (.iastore, 1) := dk_79 (dk_at dksX2_quads_0 16 rfl rfl)
theorem dX2_quads_17 : decode cX2_quads 17 = .ok (.iinc 2 1, 3) := dk_132 2 1 (dk_at dksX2_quads_0 17 rfl rfl)
theorem dX2_quads_20 : decode cX2_quads 20 = .ok (.goto (-18), 3) := dk_167 255 238 (dk_at dksX2_quads_0 20 rfl rfl)
theorem dX2_quads_23 : decode cX2_quads 23 = .ok (.return_, 1) := dk_177 (dk_at dksX2_quads_0 23 rfl rfl)
abbrev cX2_number : ByteArray := prog_8_method_8_code
def yX2_number : MethodName := ⟨RX2, "number", "(II)I"⟩
def dkwX2_number_5 : List UInt8 := [21, 4, 172]
abbrev dktX2_number_5 : List UInt8 := dkwX2_number_5 ++ []
def dkwX2_number_4 : List UInt8 := [180, 0, 68, 29, 159, 0, 15, 21, 4, 27, 161, 0, 9, 21, 4, 28, 164, 0, 8, 42, 29, 182, 0, 89]
abbrev dktX2_number_4 : List UInt8 := dkwX2_number_4 ++ dktX2_number_5
def dkwX2_number_3 : List UInt8 := [180, 0, 68, 51, 96, 16, 48, 100, 54, 4, 42, 89, 180, 0, 68, 4, 96, 181, 0, 68, 167, 255, 172, 42]
abbrev dktX2_number_3 : List UInt8 := dkwX2_number_3 ++ dktX2_number_4
def dkwX2_number_2 : List UInt8 := [180, 0, 68, 29, 100, 6, 160, 0, 8, 42, 29, 182, 0, 89, 16, 10, 21, 4, 104, 42, 180, 0, 9, 42]
abbrev dktX2_number_2 : List UInt8 := dkwX2_number_2 ++ dktX2_number_3
def dkwX2_number_1 : List UInt8 := [180, 0, 68, 51, 16, 48, 161, 0, 65, 42, 180, 0, 9, 42, 180, 0, 68, 51, 16, 57, 163, 0, 51, 42]
abbrev dktX2_number_1 : List UInt8 := dkwX2_number_1 ++ dktX2_number_2
def dkwX2_number_0 : List UInt8 := [42, 182, 0, 93, 62, 3, 54, 4, 42, 180, 0, 68, 42, 180, 0, 71, 162, 0, 79, 42, 180, 0, 9, 42]
abbrev dktX2_number_0 : List UInt8 := dkwX2_number_0 ++ dktX2_number_1
theorem dksX2_number_0 : cX2_number.data.toList.drop 0 = dktX2_number_0 := by decide +kernel
theorem dksX2_number_1 : cX2_number.data.toList.drop 24 = dktX2_number_1 := dk_seg dksX2_number_0 24 rfl rfl
theorem dksX2_number_2 : cX2_number.data.toList.drop 48 = dktX2_number_2 := dk_seg dksX2_number_1 24 rfl rfl
theorem dksX2_number_3 : cX2_number.data.toList.drop 72 = dktX2_number_3 := dk_seg dksX2_number_2 24 rfl rfl
theorem dksX2_number_4 : cX2_number.data.toList.drop 96 = dktX2_number_4 := dk_seg dksX2_number_3 24 rfl rfl
theorem dksX2_number_5 : cX2_number.data.toList.drop 120 = dktX2_number_5 := dk_seg dksX2_number_4 24 rfl rfl
theorem dX2_number_0 : decode cX2_number 0 = .ok (.aload_n 0, 1) := dk_42 (dk_at dksX2_number_0 0 rfl rfl)
theorem dX2_number_1 : decode cX2_number 1 = .ok (.invokevirtual 93, 3) := dk_182 0 93 (dk_at dksX2_number_0 1 rfl rfl)
theorem dX2_number_4 : decode cX2_number 4 = .ok (.istore_n 3, 1) := dk_62 (dk_at dksX2_number_0 4 rfl rfl)
theorem dX2_number_5 : decode cX2_number 5 = .ok (.iconst 0, 1) := dk_3 (dk_at dksX2_number_0 5 rfl rfl)
theorem dX2_number_6 : decode cX2_number 6 = .ok (.istore 4, 2) := dk_54 4 (dk_at dksX2_number_0 6 rfl rfl)
theorem dX2_number_8 : decode cX2_number 8 = .ok (.aload_n 0, 1) := dk_42 (dk_at dksX2_number_0 8 rfl rfl)
theorem dX2_number_9 : decode cX2_number 9 = .ok (.getfield 68, 3) := dk_180 0 68 (dk_at dksX2_number_0 9 rfl rfl)
theorem dX2_number_12 : decode cX2_number 12 = .ok (.aload_n 0, 1) := dk_42 (dk_at dksX2_number_0 12 rfl rfl)
theorem dX2_number_13 : decode cX2_number 13 = .ok (.getfield 71, 3) := dk_180 0 71 (dk_at dksX2_number_0 13 rfl rfl)
theorem dX2_number_16 : decode cX2_number 16 = .ok (.if_icmp .ge 79, 3) := dk_162 0 79 (dk_at dksX2_number_0 16 rfl rfl)
theorem dX2_number_19 : decode cX2_number 19 = .ok (.aload_n 0, 1) := dk_42 (dk_at dksX2_number_0 19 rfl rfl)
theorem dX2_number_20 : decode cX2_number 20 = .ok (.getfield 9, 3) := dk_180 0 9 (dk_at dksX2_number_0 20 rfl rfl)
theorem dX2_number_23 : decode cX2_number 23 = .ok (.aload_n 0, 1) := dk_42 (dk_at dksX2_number_0 23 rfl rfl)
theorem dX2_number_24 : decode cX2_number 24 = .ok (.getfield 68, 3) := dk_180 0 68 (dk_at dksX2_number_1 0 rfl rfl)
theorem dX2_number_27 : decode cX2_number 27 = .ok (.baload, 1) := dk_51 (dk_at dksX2_number_1 3 rfl rfl)
theorem dX2_number_28 : decode cX2_number 28 = .ok (.bipush 48, 2) := dk_16 48 (dk_at dksX2_number_1 4 rfl rfl)
theorem dX2_number_30 : decode cX2_number 30 = .ok (.if_icmp .lt 65, 3) := dk_161 0 65 (dk_at dksX2_number_1 6 rfl rfl)
theorem dX2_number_33 : decode cX2_number 33 = .ok (.aload_n 0, 1) := dk_42 (dk_at dksX2_number_1 9 rfl rfl)
theorem dX2_number_34 : decode cX2_number 34 = .ok (.getfield 9, 3) := dk_180 0 9 (dk_at dksX2_number_1 10 rfl rfl)
theorem dX2_number_37 : decode cX2_number 37 = .ok (.aload_n 0, 1) := dk_42 (dk_at dksX2_number_1 13 rfl rfl)
theorem dX2_number_38 : decode cX2_number 38 = .ok (.getfield 68, 3) := dk_180 0 68 (dk_at dksX2_number_1 14 rfl rfl)
theorem dX2_number_41 : decode cX2_number 41 = .ok (.baload, 1) := dk_51 (dk_at dksX2_number_1 17 rfl rfl)
theorem dX2_number_42 : decode cX2_number 42 = .ok (.bipush 57, 2) := dk_16 57 (dk_at dksX2_number_1 18 rfl rfl)
theorem dX2_number_44 : decode cX2_number 44 = .ok (.if_icmp .gt 51, 3) := dk_163 0 51 (dk_at dksX2_number_1 20 rfl rfl)
theorem dX2_number_47 : decode cX2_number 47 = .ok (.aload_n 0, 1) := dk_42 (dk_at dksX2_number_1 23 rfl rfl)
theorem dX2_number_48 : decode cX2_number 48 = .ok (.getfield 68, 3) := dk_180 0 68 (dk_at dksX2_number_2 0 rfl rfl)
theorem dX2_number_51 : decode cX2_number 51 = .ok (.iload_n 3, 1) := dk_29 (dk_at dksX2_number_2 3 rfl rfl)
theorem dX2_number_52 : decode cX2_number 52 = .ok (.isub, 1) := dk_100 (dk_at dksX2_number_2 4 rfl rfl)
theorem dX2_number_53 : decode cX2_number 53 = .ok (.iconst 3, 1) := dk_6 (dk_at dksX2_number_2 5 rfl rfl)
theorem dX2_number_54 : decode cX2_number 54 = .ok (.if_icmp .ne 8, 3) := dk_160 0 8 (dk_at dksX2_number_2 6 rfl rfl)
theorem dX2_number_57 : decode cX2_number 57 = .ok (.aload_n 0, 1) := dk_42 (dk_at dksX2_number_2 9 rfl rfl)
theorem dX2_number_58 : decode cX2_number 58 = .ok (.iload_n 3, 1) := dk_29 (dk_at dksX2_number_2 10 rfl rfl)
theorem dX2_number_59 : decode cX2_number 59 = .ok (.invokevirtual 89, 3) := dk_182 0 89 (dk_at dksX2_number_2 11 rfl rfl)
theorem dX2_number_62 : decode cX2_number 62 = .ok (.bipush 10, 2) := dk_16 10 (dk_at dksX2_number_2 14 rfl rfl)
theorem dX2_number_64 : decode cX2_number 64 = .ok (.iload 4, 2) := dk_21 4 (dk_at dksX2_number_2 16 rfl rfl)
theorem dX2_number_66 : decode cX2_number 66 = .ok (.imul, 1) := dk_104 (dk_at dksX2_number_2 18 rfl rfl)
theorem dX2_number_67 : decode cX2_number 67 = .ok (.aload_n 0, 1) := dk_42 (dk_at dksX2_number_2 19 rfl rfl)
theorem dX2_number_68 : decode cX2_number 68 = .ok (.getfield 9, 3) := dk_180 0 9 (dk_at dksX2_number_2 20 rfl rfl)
theorem dX2_number_71 : decode cX2_number 71 = .ok (.aload_n 0, 1) := dk_42 (dk_at dksX2_number_2 23 rfl rfl)
theorem dX2_number_72 : decode cX2_number 72 = .ok (.getfield 68, 3) := dk_180 0 68 (dk_at dksX2_number_3 0 rfl rfl)
theorem dX2_number_75 : decode cX2_number 75 = .ok (.baload, 1) := dk_51 (dk_at dksX2_number_3 3 rfl rfl)
theorem dX2_number_76 : decode cX2_number 76 = .ok (.iadd, 1) := dk_96 (dk_at dksX2_number_3 4 rfl rfl)
theorem dX2_number_77 : decode cX2_number 77 = .ok (.bipush 48, 2) := dk_16 48 (dk_at dksX2_number_3 5 rfl rfl)
theorem dX2_number_79 : decode cX2_number 79 = .ok (.isub, 1) := dk_100 (dk_at dksX2_number_3 7 rfl rfl)
theorem dX2_number_80 : decode cX2_number 80 = .ok (.istore 4, 2) := dk_54 4 (dk_at dksX2_number_3 8 rfl rfl)
theorem dX2_number_82 : decode cX2_number 82 = .ok (.aload_n 0, 1) := dk_42 (dk_at dksX2_number_3 10 rfl rfl)
theorem dX2_number_83 : decode cX2_number 83 = .ok (.dup, 1) := dk_89 (dk_at dksX2_number_3 11 rfl rfl)
theorem dX2_number_84 : decode cX2_number 84 = .ok (.getfield 68, 3) := dk_180 0 68 (dk_at dksX2_number_3 12 rfl rfl)
theorem dX2_number_87 : decode cX2_number 87 = .ok (.iconst 1, 1) := dk_4 (dk_at dksX2_number_3 15 rfl rfl)
theorem dX2_number_88 : decode cX2_number 88 = .ok (.iadd, 1) := dk_96 (dk_at dksX2_number_3 16 rfl rfl)
theorem dX2_number_89 : decode cX2_number 89 = .ok (.putfield 68, 3) := dk_181 0 68 (dk_at dksX2_number_3 17 rfl rfl)
theorem dX2_number_92 : decode cX2_number 92 = .ok (.goto (-84), 3) := dk_167 255 172 (dk_at dksX2_number_3 20 rfl rfl)
theorem dX2_number_95 : decode cX2_number 95 = .ok (.aload_n 0, 1) := dk_42 (dk_at dksX2_number_3 23 rfl rfl)
theorem dX2_number_96 : decode cX2_number 96 = .ok (.getfield 68, 3) := dk_180 0 68 (dk_at dksX2_number_4 0 rfl rfl)
theorem dX2_number_99 : decode cX2_number 99 = .ok (.iload_n 3, 1) := dk_29 (dk_at dksX2_number_4 3 rfl rfl)
theorem dX2_number_100 : decode cX2_number 100 = .ok (.if_icmp .eq 15, 3) := dk_159 0 15 (dk_at dksX2_number_4 4 rfl rfl)
theorem dX2_number_103 : decode cX2_number 103 = .ok (.iload 4, 2) := dk_21 4 (dk_at dksX2_number_4 7 rfl rfl)
theorem dX2_number_105 : decode cX2_number 105 = .ok (.iload_n 1, 1) := dk_27 (dk_at dksX2_number_4 9 rfl rfl)
theorem dX2_number_106 : decode cX2_number 106 = .ok (.if_icmp .lt 9, 3) := dk_161 0 9 (dk_at dksX2_number_4 10 rfl rfl)
theorem dX2_number_109 : decode cX2_number 109 = .ok (.iload 4, 2) := dk_21 4 (dk_at dksX2_number_4 13 rfl rfl)
theorem dX2_number_111 : decode cX2_number 111 = .ok (.iload_n 2, 1) := dk_28 (dk_at dksX2_number_4 15 rfl rfl)
theorem dX2_number_112 : decode cX2_number 112 = .ok (.if_icmp .le 8, 3) := dk_164 0 8 (dk_at dksX2_number_4 16 rfl rfl)
theorem dX2_number_115 : decode cX2_number 115 = .ok (.aload_n 0, 1) := dk_42 (dk_at dksX2_number_4 19 rfl rfl)
theorem dX2_number_116 : decode cX2_number 116 = .ok (.iload_n 3, 1) := dk_29 (dk_at dksX2_number_4 20 rfl rfl)
theorem dX2_number_117 : decode cX2_number 117 = .ok (.invokevirtual 89, 3) := dk_182 0 89 (dk_at dksX2_number_4 21 rfl rfl)
theorem dX2_number_120 : decode cX2_number 120 = .ok (.iload 4, 2) := dk_21 4 (dk_at dksX2_number_5 0 rfl rfl)
theorem dX2_number_122 : decode cX2_number 122 = .ok (.ireturn, 1) := dk_172 (dk_at dksX2_number_5 2 rfl rfl)
abbrev cX2_here : ByteArray := prog_8_method_4_code
def yX2_here : MethodName := ⟨RX2, "here", "()I"⟩
def dkwX2_here_0 : List UInt8 := [42, 182, 0, 74, 60, 42, 180, 0, 68, 172]
abbrev dktX2_here_0 : List UInt8 := dkwX2_here_0 ++ []
theorem dksX2_here_0 : cX2_here.data.toList.drop 0 = dktX2_here_0 := by decide +kernel
theorem dX2_here_0 : decode cX2_here 0 = .ok (.aload_n 0, 1) := dk_42 (dk_at dksX2_here_0 0 rfl rfl)
theorem dX2_here_1 : decode cX2_here 1 = .ok (.invokevirtual 74, 3) := dk_182 0 74 (dk_at dksX2_here_0 1 rfl rfl)
theorem dX2_here_4 : decode cX2_here 4 = .ok (.istore_n 1, 1) := dk_60 (dk_at dksX2_here_0 4 rfl rfl)
theorem dX2_here_5 : decode cX2_here 5 = .ok (.aload_n 0, 1) := dk_42 (dk_at dksX2_here_0 5 rfl rfl)
theorem dX2_here_6 : decode cX2_here 6 = .ok (.getfield 68, 3) := dk_180 0 68 (dk_at dksX2_here_0 6 rfl rfl)
theorem dX2_here_9 : decode cX2_here 9 = .ok (.ireturn, 1) := dk_172 (dk_at dksX2_here_0 9 rfl rfl)
abbrev cX2_after : ByteArray := prog_8_method_9_code
def yX2_after : MethodName := ⟨RX2, "after", "(Ljava/lang/String;II)I"⟩
def dkwX2_after_0 : List UInt8 := [42, 43, 182, 0, 96, 42, 28, 29, 182, 0, 100, 172]
abbrev dktX2_after_0 : List UInt8 := dkwX2_after_0 ++ []
theorem dksX2_after_0 : cX2_after.data.toList.drop 0 = dktX2_after_0 := by decide +kernel
theorem dX2_after_0 : decode cX2_after 0 = .ok (.aload_n 0, 1) := dk_42 (dk_at dksX2_after_0 0 rfl rfl)
theorem dX2_after_1 : decode cX2_after 1 = .ok (.aload_n 1, 1) := dk_43 (dk_at dksX2_after_0 1 rfl rfl)
theorem dX2_after_2 : decode cX2_after 2 = .ok (.invokevirtual 96, 3) := dk_182 0 96 (dk_at dksX2_after_0 2 rfl rfl)
theorem dX2_after_5 : decode cX2_after 5 = .ok (.aload_n 0, 1) := dk_42 (dk_at dksX2_after_0 5 rfl rfl)
theorem dX2_after_6 : decode cX2_after 6 = .ok (.iload_n 2, 1) := dk_28 (dk_at dksX2_after_0 6 rfl rfl)
theorem dX2_after_7 : decode cX2_after 7 = .ok (.iload_n 3, 1) := dk_29 (dk_at dksX2_after_0 7 rfl rfl)
theorem dX2_after_8 : decode cX2_after 8 = .ok (.invokevirtual 100, 3) := dk_182 0 100 (dk_at dksX2_after_0 8 rfl rfl)
theorem dX2_after_11 : decode cX2_after 11 = .ok (.ireturn, 1) := dk_172 (dk_at dksX2_after_0 11 rfl rfl)
abbrev cX2_expect : ByteArray := prog_8_method_7_code
def yX2_expect : MethodName := ⟨RX2, "expect", "(Ljava/lang/String;)V"⟩
def dkwX2_expect_0 : List UInt8 := [42, 43, 182, 0, 85, 154, 0, 11, 42, 42, 180, 0, 68, 182, 0, 89, 177]
abbrev dktX2_expect_0 : List UInt8 := dkwX2_expect_0 ++ []
theorem dksX2_expect_0 : cX2_expect.data.toList.drop 0 = dktX2_expect_0 := by decide +kernel
theorem dX2_expect_0 : decode cX2_expect 0 = .ok (.aload_n 0, 1) := dk_42 (dk_at dksX2_expect_0 0 rfl rfl)
theorem dX2_expect_1 : decode cX2_expect 1 = .ok (.aload_n 1, 1) := dk_43 (dk_at dksX2_expect_0 1 rfl rfl)
theorem dX2_expect_2 : decode cX2_expect 2 = .ok (.invokevirtual 85, 3) := dk_182 0 85 (dk_at dksX2_expect_0 2 rfl rfl)
theorem dX2_expect_5 : decode cX2_expect 5 = .ok (.ifCond .ne 11, 3) := dk_154 0 11 (dk_at dksX2_expect_0 5 rfl rfl)
theorem dX2_expect_8 : decode cX2_expect 8 = .ok (.aload_n 0, 1) := dk_42 (dk_at dksX2_expect_0 8 rfl rfl)
theorem dX2_expect_9 : decode cX2_expect 9 = .ok (.aload_n 0, 1) := dk_42 (dk_at dksX2_expect_0 9 rfl rfl)
theorem dX2_expect_10 : decode cX2_expect 10 = .ok (.getfield 68, 3) := dk_180 0 68 (dk_at dksX2_expect_0 10 rfl rfl)
theorem dX2_expect_13 : decode cX2_expect 13 = .ok (.invokevirtual 89, 3) := dk_182 0 89 (dk_at dksX2_expect_0 13 rfl rfl)
theorem dX2_expect_16 : decode cX2_expect 16 = .ok (.return_, 1) := dk_177 (dk_at dksX2_expect_0 16 rfl rfl)
abbrev cX2_addThing : ByteArray := prog_8_method_16_code
def yX2_addThing : MethodName := ⟨RX2, "addThing", "(I)V"⟩
def dkwX2_addThing_6 : List UInt8 := [96, 181, 0, 169, 177]
abbrev dktX2_addThing_6 : List UInt8 := dkwX2_addThing_6 ++ []
def dkwX2_addThing_5 : List UInt8 := [44, 42, 18, 39, 182, 0, 85, 181, 0, 193, 44, 3, 181, 0, 195, 42, 180, 0, 53, 89, 180, 0, 169, 4]
abbrev dktX2_addThing_5 : List UInt8 := dkwX2_addThing_5 ++ dktX2_addThing_6
def dkwX2_addThing_4 : List UInt8 := [42, 3, 42, 180, 0, 53, 180, 0, 139, 4, 100, 182, 0, 100, 167, 0, 7, 44, 180, 0, 181, 181, 0, 190]
abbrev dktX2_addThing_4 : List UInt8 := dkwX2_addThing_4 ++ dktX2_addThing_5
def dkwX2_addThing_3 : List UInt8 := [42, 3, 16, 99, 182, 0, 100, 167, 0, 4, 3, 181, 0, 186, 44, 42, 18, 188, 182, 0, 85, 153, 0, 20]
abbrev dktX2_addThing_3 : List UInt8 := dkwX2_addThing_3 ++ dktX2_addThing_4
def dkwX2_addThing_2 : List UInt8 := [180, 0, 53, 180, 0, 139, 4, 100, 182, 0, 158, 181, 0, 181, 44, 42, 18, 184, 182, 0, 85, 153, 0, 13]
abbrev dktX2_addThing_2 : List UInt8 := dkwX2_addThing_2 ++ dktX2_addThing_3
def dkwX2_addThing_1 : List UInt8 := [42, 180, 0, 53, 180, 0, 169, 50, 77, 42, 44, 180, 0, 176, 182, 0, 152, 44, 42, 18, 179, 3, 42]
abbrev dktX2_addThing_1 : List UInt8 := dkwX2_addThing_1 ++ dktX2_addThing_2
def dkwX2_addThing_0 : List UInt8 := [42, 180, 0, 53, 180, 0, 169, 16, 8, 160, 0, 8, 42, 27, 182, 0, 89, 42, 180, 0, 53, 180, 0, 172]
abbrev dktX2_addThing_0 : List UInt8 := dkwX2_addThing_0 ++ dktX2_addThing_1
theorem dksX2_addThing_0 : cX2_addThing.data.toList.drop 0 = dktX2_addThing_0 := by decide +kernel
theorem dksX2_addThing_1 : cX2_addThing.data.toList.drop 24 = dktX2_addThing_1 := dk_seg dksX2_addThing_0 24 rfl rfl
theorem dksX2_addThing_2 : cX2_addThing.data.toList.drop 47 = dktX2_addThing_2 := dk_seg dksX2_addThing_1 23 rfl rfl
theorem dksX2_addThing_3 : cX2_addThing.data.toList.drop 71 = dktX2_addThing_3 := dk_seg dksX2_addThing_2 24 rfl rfl
theorem dksX2_addThing_4 : cX2_addThing.data.toList.drop 95 = dktX2_addThing_4 := dk_seg dksX2_addThing_3 24 rfl rfl
theorem dksX2_addThing_5 : cX2_addThing.data.toList.drop 119 = dktX2_addThing_5 := dk_seg dksX2_addThing_4 24 rfl rfl
theorem dksX2_addThing_6 : cX2_addThing.data.toList.drop 143 = dktX2_addThing_6 := dk_seg dksX2_addThing_5 24 rfl rfl
theorem dX2_addThing_0 : decode cX2_addThing 0 = .ok (.aload_n 0, 1) := dk_42 (dk_at dksX2_addThing_0 0 rfl rfl)
theorem dX2_addThing_1 : decode cX2_addThing 1 = .ok (.getfield 53, 3) := dk_180 0 53 (dk_at dksX2_addThing_0 1 rfl rfl)
theorem dX2_addThing_4 : decode cX2_addThing 4 = .ok (.getfield 169, 3) := dk_180 0 169 (dk_at dksX2_addThing_0 4 rfl rfl)
theorem dX2_addThing_7 : decode cX2_addThing 7 = .ok (.bipush 8, 2) := dk_16 8 (dk_at dksX2_addThing_0 7 rfl rfl)
theorem dX2_addThing_9 : decode cX2_addThing 9 = .ok (.if_icmp .ne 8, 3) := dk_160 0 8 (dk_at dksX2_addThing_0 9 rfl rfl)
theorem dX2_addThing_12 : decode cX2_addThing 12 = .ok (.aload_n 0, 1) := dk_42 (dk_at dksX2_addThing_0 12 rfl rfl)
theorem dX2_addThing_13 : decode cX2_addThing 13 = .ok (.iload_n 1, 1) := dk_27 (dk_at dksX2_addThing_0 13 rfl rfl)
theorem dX2_addThing_14 : decode cX2_addThing 14 = .ok (.invokevirtual 89, 3) := dk_182 0 89 (dk_at dksX2_addThing_0 14 rfl rfl)
theorem dX2_addThing_17 : decode cX2_addThing 17 = .ok (.aload_n 0, 1) := dk_42 (dk_at dksX2_addThing_0 17 rfl rfl)
theorem dX2_addThing_18 : decode cX2_addThing 18 = .ok (.getfield 53, 3) := dk_180 0 53 (dk_at dksX2_addThing_0 18 rfl rfl)
theorem dX2_addThing_21 : decode cX2_addThing 21 = .ok (.getfield 172, 3) := dk_180 0 172 (dk_at dksX2_addThing_0 21 rfl rfl)
theorem dX2_addThing_24 : decode cX2_addThing 24 = .ok (.aload_n 0, 1) := dk_42 (dk_at dksX2_addThing_1 0 rfl rfl)
theorem dX2_addThing_25 : decode cX2_addThing 25 = .ok (.getfield 53, 3) := dk_180 0 53 (dk_at dksX2_addThing_1 1 rfl rfl)
theorem dX2_addThing_28 : decode cX2_addThing 28 = .ok (.getfield 169, 3) := dk_180 0 169 (dk_at dksX2_addThing_1 4 rfl rfl)
theorem dX2_addThing_31 : decode cX2_addThing 31 = .ok (.aaload, 1) := dk_50 (dk_at dksX2_addThing_1 7 rfl rfl)
theorem dX2_addThing_32 : decode cX2_addThing 32 = .ok (.astore_n 2, 1) := dk_77 (dk_at dksX2_addThing_1 8 rfl rfl)
theorem dX2_addThing_33 : decode cX2_addThing 33 = .ok (.aload_n 0, 1) := dk_42 (dk_at dksX2_addThing_1 9 rfl rfl)
theorem dX2_addThing_34 : decode cX2_addThing 34 = .ok (.aload_n 2, 1) := dk_44 (dk_at dksX2_addThing_1 10 rfl rfl)
theorem dX2_addThing_35 : decode cX2_addThing 35 = .ok (.getfield 176, 3) := dk_180 0 176 (dk_at dksX2_addThing_1 11 rfl rfl)
theorem dX2_addThing_38 : decode cX2_addThing 38 = .ok (.invokevirtual 152, 3) := dk_182 0 152 (dk_at dksX2_addThing_1 14 rfl rfl)
theorem dX2_addThing_41 : decode cX2_addThing 41 = .ok (.aload_n 2, 1) := dk_44 (dk_at dksX2_addThing_1 17 rfl rfl)
theorem dX2_addThing_42 : decode cX2_addThing 42 = .ok (.aload_n 0, 1) := dk_42 (dk_at dksX2_addThing_1 18 rfl rfl)
theorem dX2_addThing_43 : decode cX2_addThing 43 = .ok (.ldc 179, 2) := dk_18 179 (dk_at dksX2_addThing_1 19 rfl rfl)
theorem dX2_addThing_45 : decode cX2_addThing 45 = .ok (.iconst 0, 1) := dk_3 (dk_at dksX2_addThing_1 21 rfl rfl)
theorem dX2_addThing_46 : decode cX2_addThing 46 = .ok (.aload_n 0, 1) := dk_42 (dk_at dksX2_addThing_1 22 rfl rfl)
theorem dX2_addThing_47 : decode cX2_addThing 47 = .ok (.getfield 53, 3) := dk_180 0 53 (dk_at dksX2_addThing_2 0 rfl rfl)
theorem dX2_addThing_50 : decode cX2_addThing 50 = .ok (.getfield 139, 3) := dk_180 0 139 (dk_at dksX2_addThing_2 3 rfl rfl)
theorem dX2_addThing_53 : decode cX2_addThing 53 = .ok (.iconst 1, 1) := dk_4 (dk_at dksX2_addThing_2 6 rfl rfl)
theorem dX2_addThing_54 : decode cX2_addThing 54 = .ok (.isub, 1) := dk_100 (dk_at dksX2_addThing_2 7 rfl rfl)
theorem dX2_addThing_55 : decode cX2_addThing 55 = .ok (.invokevirtual 158, 3) := dk_182 0 158 (dk_at dksX2_addThing_2 8 rfl rfl)
theorem dX2_addThing_58 : decode cX2_addThing 58 = .ok (.putfield 181, 3) := dk_181 0 181 (dk_at dksX2_addThing_2 11 rfl rfl)
theorem dX2_addThing_61 : decode cX2_addThing 61 = .ok (.aload_n 2, 1) := dk_44 (dk_at dksX2_addThing_2 14 rfl rfl)
theorem dX2_addThing_62 : decode cX2_addThing 62 = .ok (.aload_n 0, 1) := dk_42 (dk_at dksX2_addThing_2 15 rfl rfl)
theorem dX2_addThing_63 : decode cX2_addThing 63 = .ok (.ldc 184, 2) := dk_18 184 (dk_at dksX2_addThing_2 16 rfl rfl)
theorem dX2_addThing_65 : decode cX2_addThing 65 = .ok (.invokevirtual 85, 3) := dk_182 0 85 (dk_at dksX2_addThing_2 18 rfl rfl)
theorem dX2_addThing_68 : decode cX2_addThing 68 = .ok (.ifCond .eq 13, 3) := dk_153 0 13 (dk_at dksX2_addThing_2 21 rfl rfl)
theorem dX2_addThing_71 : decode cX2_addThing 71 = .ok (.aload_n 0, 1) := dk_42 (dk_at dksX2_addThing_3 0 rfl rfl)
theorem dX2_addThing_72 : decode cX2_addThing 72 = .ok (.iconst 0, 1) := dk_3 (dk_at dksX2_addThing_3 1 rfl rfl)
theorem dX2_addThing_73 : decode cX2_addThing 73 = .ok (.bipush 99, 2) := dk_16 99 (dk_at dksX2_addThing_3 2 rfl rfl)
theorem dX2_addThing_75 : decode cX2_addThing 75 = .ok (.invokevirtual 100, 3) := dk_182 0 100 (dk_at dksX2_addThing_3 4 rfl rfl)
theorem dX2_addThing_78 : decode cX2_addThing 78 = .ok (.goto 4, 3) := dk_167 0 4 (dk_at dksX2_addThing_3 7 rfl rfl)
theorem dX2_addThing_81 : decode cX2_addThing 81 = .ok (.iconst 0, 1) := dk_3 (dk_at dksX2_addThing_3 10 rfl rfl)
theorem dX2_addThing_82 : decode cX2_addThing 82 = .ok (.putfield 186, 3) := dk_181 0 186 (dk_at dksX2_addThing_3 11 rfl rfl)
theorem dX2_addThing_85 : decode cX2_addThing 85 = .ok (.aload_n 2, 1) := dk_44 (dk_at dksX2_addThing_3 14 rfl rfl)
theorem dX2_addThing_86 : decode cX2_addThing 86 = .ok (.aload_n 0, 1) := dk_42 (dk_at dksX2_addThing_3 15 rfl rfl)
theorem dX2_addThing_87 : decode cX2_addThing 87 = .ok (.ldc 188, 2) := dk_18 188 (dk_at dksX2_addThing_3 16 rfl rfl)
theorem dX2_addThing_89 : decode cX2_addThing 89 = .ok (.invokevirtual 85, 3) := dk_182 0 85 (dk_at dksX2_addThing_3 18 rfl rfl)
theorem dX2_addThing_92 : decode cX2_addThing 92 = .ok (.ifCond .eq 20, 3) := dk_153 0 20 (dk_at dksX2_addThing_3 21 rfl rfl)
theorem dX2_addThing_95 : decode cX2_addThing 95 = .ok (.aload_n 0, 1) := dk_42 (dk_at dksX2_addThing_4 0 rfl rfl)
theorem dX2_addThing_96 : decode cX2_addThing 96 = .ok (.iconst 0, 1) := dk_3 (dk_at dksX2_addThing_4 1 rfl rfl)
theorem dX2_addThing_97 : decode cX2_addThing 97 = .ok (.aload_n 0, 1) := dk_42 (dk_at dksX2_addThing_4 2 rfl rfl)
theorem dX2_addThing_98 : decode cX2_addThing 98 = .ok (.getfield 53, 3) := dk_180 0 53 (dk_at dksX2_addThing_4 3 rfl rfl)
theorem dX2_addThing_101 : decode cX2_addThing 101 = .ok (.getfield 139, 3) := dk_180 0 139 (dk_at dksX2_addThing_4 6 rfl rfl)
theorem dX2_addThing_104 : decode cX2_addThing 104 = .ok (.iconst 1, 1) := dk_4 (dk_at dksX2_addThing_4 9 rfl rfl)
theorem dX2_addThing_105 : decode cX2_addThing 105 = .ok (.isub, 1) := dk_100 (dk_at dksX2_addThing_4 10 rfl rfl)
theorem dX2_addThing_106 : decode cX2_addThing 106 = .ok (.invokevirtual 100, 3) := dk_182 0 100 (dk_at dksX2_addThing_4 11 rfl rfl)
theorem dX2_addThing_109 : decode cX2_addThing 109 = .ok (.goto 7, 3) := dk_167 0 7 (dk_at dksX2_addThing_4 14 rfl rfl)
theorem dX2_addThing_112 : decode cX2_addThing 112 = .ok (.aload_n 2, 1) := dk_44 (dk_at dksX2_addThing_4 17 rfl rfl)
theorem dX2_addThing_113 : decode cX2_addThing 113 = .ok (.getfield 181, 3) := dk_180 0 181 (dk_at dksX2_addThing_4 18 rfl rfl)
theorem dX2_addThing_116 : decode cX2_addThing 116 = .ok (.putfield 190, 3) := dk_181 0 190 (dk_at dksX2_addThing_4 21 rfl rfl)
theorem dX2_addThing_119 : decode cX2_addThing 119 = .ok (.aload_n 2, 1) := dk_44 (dk_at dksX2_addThing_5 0 rfl rfl)
theorem dX2_addThing_120 : decode cX2_addThing 120 = .ok (.aload_n 0, 1) := dk_42 (dk_at dksX2_addThing_5 1 rfl rfl)
theorem dX2_addThing_121 : decode cX2_addThing 121 = .ok (.ldc 39, 2) := dk_18 39 (dk_at dksX2_addThing_5 2 rfl rfl)
theorem dX2_addThing_123 : decode cX2_addThing 123 = .ok (.invokevirtual 85, 3) := dk_182 0 85 (dk_at dksX2_addThing_5 4 rfl rfl)
theorem dX2_addThing_126 : decode cX2_addThing 126 = .ok (.putfield 193, 3) := dk_181 0 193 (dk_at dksX2_addThing_5 7 rfl rfl)
theorem dX2_addThing_129 : decode cX2_addThing 129 = .ok (.aload_n 2, 1) := dk_44 (dk_at dksX2_addThing_5 10 rfl rfl)
theorem dX2_addThing_130 : decode cX2_addThing 130 = .ok (.iconst 0, 1) := dk_3 (dk_at dksX2_addThing_5 11 rfl rfl)
theorem dX2_addThing_131 : decode cX2_addThing 131 = .ok (.putfield 195, 3) := dk_181 0 195 (dk_at dksX2_addThing_5 12 rfl rfl)
theorem dX2_addThing_134 : decode cX2_addThing 134 = .ok (.aload_n 0, 1) := dk_42 (dk_at dksX2_addThing_5 15 rfl rfl)
theorem dX2_addThing_135 : decode cX2_addThing 135 = .ok (.getfield 53, 3) := dk_180 0 53 (dk_at dksX2_addThing_5 16 rfl rfl)
theorem dX2_addThing_138 : decode cX2_addThing 138 = .ok (.dup, 1) := dk_89 (dk_at dksX2_addThing_5 19 rfl rfl)
theorem dX2_addThing_139 : decode cX2_addThing 139 = .ok (.getfield 169, 3) := dk_180 0 169 (dk_at dksX2_addThing_5 20 rfl rfl)
theorem dX2_addThing_142 : decode cX2_addThing 142 = .ok (.iconst 1, 1) := dk_4 (dk_at dksX2_addThing_5 23 rfl rfl)
theorem dX2_addThing_143 : decode cX2_addThing 143 = .ok (.iadd, 1) := dk_96 (dk_at dksX2_addThing_6 0 rfl rfl)
theorem dX2_addThing_144 : decode cX2_addThing 144 = .ok (.putfield 169, 3) := dk_181 0 169 (dk_at dksX2_addThing_6 1 rfl rfl)
theorem dX2_addThing_147 : decode cX2_addThing 147 = .ok (.return_, 1) := dk_177 (dk_at dksX2_addThing_6 4 rfl rfl)
abbrev cX2_law : ByteArray := prog_8_method_17_code
def yX2_law : MethodName := ⟨RX2, "law", "(I)I"⟩
def dkwX2_law_6 : List UInt8 := [187, 0, 215, 89, 25, 5, 183, 0, 217, 83, 132, 2, 1, 167, 255, 114, 28, 172]
abbrev dktX2_law_6 : List UInt8 := dkwX2_law_6 ++ []
def dkwX2_law_5 : List UInt8 := [167, 0, 31, 29, 4, 160, 0, 17, 187, 0, 212, 89, 21, 4, 25, 5, 183, 0, 214, 167, 0, 12]
abbrev dktX2_law_5 : List UInt8 := dkwX2_law_5 ++ dktX2_law_6
def dkwX2_law_4 : List UInt8 := [58, 5, 42, 180, 0, 46, 28, 29, 154, 0, 17, 187, 0, 207, 89, 21, 4, 25, 5, 183, 0, 209]
abbrev dktX2_law_4 : List UInt8 := dkwX2_law_4 ++ dktX2_law_5
def dkwX2_law_3 : List UInt8 := [182, 0, 100, 54, 4, 42, 18, 202, 182, 0, 85, 153, 0, 11, 42, 3, 182, 0, 204, 167, 0, 4, 1]
abbrev dktX2_law_3 : List UInt8 := dkwX2_law_3 ++ dktX2_law_4
def dkwX2_law_2 : List UInt8 := [160, 0, 9, 42, 18, 200, 182, 0, 96, 29, 5, 160, 0, 7, 3, 167, 0, 10, 42, 3, 16, 60]
abbrev dktX2_law_2 : List UInt8 := dkwX2_law_2 ++ dktX2_law_3
def dkwX2_law_1 : List UInt8 := [153, 0, 7, 3, 167, 0, 17, 42, 18, 23, 182, 0, 85, 153, 0, 7, 4, 167, 0, 4, 5, 62, 29, 5]
abbrev dktX2_law_1 : List UInt8 := dkwX2_law_1 ++ dktX2_law_2
def dkwX2_law_0 : List UInt8 := [42, 27, 182, 0, 107, 3, 61, 42, 28, 16, 12, 182, 0, 114, 153, 0, 138, 42, 18, 198, 182, 0, 85]
abbrev dktX2_law_0 : List UInt8 := dkwX2_law_0 ++ dktX2_law_1
theorem dksX2_law_0 : cX2_law.data.toList.drop 0 = dktX2_law_0 := by decide +kernel
theorem dksX2_law_1 : cX2_law.data.toList.drop 23 = dktX2_law_1 := dk_seg dksX2_law_0 23 rfl rfl
theorem dksX2_law_2 : cX2_law.data.toList.drop 47 = dktX2_law_2 := dk_seg dksX2_law_1 24 rfl rfl
theorem dksX2_law_3 : cX2_law.data.toList.drop 69 = dktX2_law_3 := dk_seg dksX2_law_2 22 rfl rfl
theorem dksX2_law_4 : cX2_law.data.toList.drop 92 = dktX2_law_4 := dk_seg dksX2_law_3 23 rfl rfl
theorem dksX2_law_5 : cX2_law.data.toList.drop 114 = dktX2_law_5 := dk_seg dksX2_law_4 22 rfl rfl
theorem dksX2_law_6 : cX2_law.data.toList.drop 136 = dktX2_law_6 := dk_seg dksX2_law_5 22 rfl rfl
theorem dX2_law_0 : decode cX2_law 0 = .ok (.aload_n 0, 1) := dk_42 (dk_at dksX2_law_0 0 rfl rfl)
theorem dX2_law_1 : decode cX2_law 1 = .ok (.iload_n 1, 1) := dk_27 (dk_at dksX2_law_0 1 rfl rfl)
theorem dX2_law_2 : decode cX2_law 2 = .ok (.invokevirtual 107, 3) := dk_182 0 107 (dk_at dksX2_law_0 2 rfl rfl)
theorem dX2_law_5 : decode cX2_law 5 = .ok (.iconst 0, 1) := dk_3 (dk_at dksX2_law_0 5 rfl rfl)
theorem dX2_law_6 : decode cX2_law 6 = .ok (.istore_n 2, 1) := dk_61 (dk_at dksX2_law_0 6 rfl rfl)
theorem dX2_law_7 : decode cX2_law 7 = .ok (.aload_n 0, 1) := dk_42 (dk_at dksX2_law_0 7 rfl rfl)
theorem dX2_law_8 : decode cX2_law 8 = .ok (.iload_n 2, 1) := dk_28 (dk_at dksX2_law_0 8 rfl rfl)
theorem dX2_law_9 : decode cX2_law 9 = .ok (.bipush 12, 2) := dk_16 12 (dk_at dksX2_law_0 9 rfl rfl)
theorem dX2_law_11 : decode cX2_law 11 = .ok (.invokevirtual 114, 3) := dk_182 0 114 (dk_at dksX2_law_0 11 rfl rfl)
theorem dX2_law_14 : decode cX2_law 14 = .ok (.ifCond .eq 138, 3) := dk_153 0 138 (dk_at dksX2_law_0 14 rfl rfl)
theorem dX2_law_17 : decode cX2_law 17 = .ok (.aload_n 0, 1) := dk_42 (dk_at dksX2_law_0 17 rfl rfl)
theorem dX2_law_18 : decode cX2_law 18 = .ok (.ldc 198, 2) := dk_18 198 (dk_at dksX2_law_0 18 rfl rfl)
theorem dX2_law_20 : decode cX2_law 20 = .ok (.invokevirtual 85, 3) := dk_182 0 85 (dk_at dksX2_law_0 20 rfl rfl)
theorem dX2_law_23 : decode cX2_law 23 = .ok (.ifCond .eq 7, 3) := dk_153 0 7 (dk_at dksX2_law_1 0 rfl rfl)
theorem dX2_law_26 : decode cX2_law 26 = .ok (.iconst 0, 1) := dk_3 (dk_at dksX2_law_1 3 rfl rfl)
theorem dX2_law_27 : decode cX2_law 27 = .ok (.goto 17, 3) := dk_167 0 17 (dk_at dksX2_law_1 4 rfl rfl)
theorem dX2_law_30 : decode cX2_law 30 = .ok (.aload_n 0, 1) := dk_42 (dk_at dksX2_law_1 7 rfl rfl)
theorem dX2_law_31 : decode cX2_law 31 = .ok (.ldc 23, 2) := dk_18 23 (dk_at dksX2_law_1 8 rfl rfl)
theorem dX2_law_33 : decode cX2_law 33 = .ok (.invokevirtual 85, 3) := dk_182 0 85 (dk_at dksX2_law_1 10 rfl rfl)
theorem dX2_law_36 : decode cX2_law 36 = .ok (.ifCond .eq 7, 3) := dk_153 0 7 (dk_at dksX2_law_1 13 rfl rfl)
theorem dX2_law_39 : decode cX2_law 39 = .ok (.iconst 1, 1) := dk_4 (dk_at dksX2_law_1 16 rfl rfl)
theorem dX2_law_40 : decode cX2_law 40 = .ok (.goto 4, 3) := dk_167 0 4 (dk_at dksX2_law_1 17 rfl rfl)
theorem dX2_law_43 : decode cX2_law 43 = .ok (.iconst 2, 1) := dk_5 (dk_at dksX2_law_1 20 rfl rfl)
theorem dX2_law_44 : decode cX2_law 44 = .ok (.istore_n 3, 1) := dk_62 (dk_at dksX2_law_1 21 rfl rfl)
theorem dX2_law_45 : decode cX2_law 45 = .ok (.iload_n 3, 1) := dk_29 (dk_at dksX2_law_1 22 rfl rfl)
theorem dX2_law_46 : decode cX2_law 46 = .ok (.iconst 2, 1) := dk_5 (dk_at dksX2_law_1 23 rfl rfl)
theorem dX2_law_47 : decode cX2_law 47 = .ok (.if_icmp .ne 9, 3) := dk_160 0 9 (dk_at dksX2_law_2 0 rfl rfl)
theorem dX2_law_50 : decode cX2_law 50 = .ok (.aload_n 0, 1) := dk_42 (dk_at dksX2_law_2 3 rfl rfl)
theorem dX2_law_51 : decode cX2_law 51 = .ok (.ldc 200, 2) := dk_18 200 (dk_at dksX2_law_2 4 rfl rfl)
theorem dX2_law_53 : decode cX2_law 53 = .ok (.invokevirtual 96, 3) := dk_182 0 96 (dk_at dksX2_law_2 6 rfl rfl)
theorem dX2_law_56 : decode cX2_law 56 = .ok (.iload_n 3, 1) := dk_29 (dk_at dksX2_law_2 9 rfl rfl)
theorem dX2_law_57 : decode cX2_law 57 = .ok (.iconst 2, 1) := dk_5 (dk_at dksX2_law_2 10 rfl rfl)
theorem dX2_law_58 : decode cX2_law 58 = .ok (.if_icmp .ne 7, 3) := dk_160 0 7 (dk_at dksX2_law_2 11 rfl rfl)
theorem dX2_law_61 : decode cX2_law 61 = .ok (.iconst 0, 1) := dk_3 (dk_at dksX2_law_2 14 rfl rfl)
theorem dX2_law_62 : decode cX2_law 62 = .ok (.goto 10, 3) := dk_167 0 10 (dk_at dksX2_law_2 15 rfl rfl)
theorem dX2_law_65 : decode cX2_law 65 = .ok (.aload_n 0, 1) := dk_42 (dk_at dksX2_law_2 18 rfl rfl)
theorem dX2_law_66 : decode cX2_law 66 = .ok (.iconst 0, 1) := dk_3 (dk_at dksX2_law_2 19 rfl rfl)
theorem dX2_law_67 : decode cX2_law 67 = .ok (.bipush 60, 2) := dk_16 60 (dk_at dksX2_law_2 20 rfl rfl)
theorem dX2_law_69 : decode cX2_law 69 = .ok (.invokevirtual 100, 3) := dk_182 0 100 (dk_at dksX2_law_3 0 rfl rfl)
theorem dX2_law_72 : decode cX2_law 72 = .ok (.istore 4, 2) := dk_54 4 (dk_at dksX2_law_3 3 rfl rfl)
theorem dX2_law_74 : decode cX2_law 74 = .ok (.aload_n 0, 1) := dk_42 (dk_at dksX2_law_3 5 rfl rfl)
theorem dX2_law_75 : decode cX2_law 75 = .ok (.ldc 202, 2) := dk_18 202 (dk_at dksX2_law_3 6 rfl rfl)
theorem dX2_law_77 : decode cX2_law 77 = .ok (.invokevirtual 85, 3) := dk_182 0 85 (dk_at dksX2_law_3 8 rfl rfl)
theorem dX2_law_80 : decode cX2_law 80 = .ok (.ifCond .eq 11, 3) := dk_153 0 11 (dk_at dksX2_law_3 11 rfl rfl)
theorem dX2_law_83 : decode cX2_law 83 = .ok (.aload_n 0, 1) := dk_42 (dk_at dksX2_law_3 14 rfl rfl)
theorem dX2_law_84 : decode cX2_law 84 = .ok (.iconst 0, 1) := dk_3 (dk_at dksX2_law_3 15 rfl rfl)
theorem dX2_law_85 : decode cX2_law 85 = .ok (.invokevirtual 204, 3) := dk_182 0 204 (dk_at dksX2_law_3 16 rfl rfl)
theorem dX2_law_88 : decode cX2_law 88 = .ok (.goto 4, 3) := dk_167 0 4 (dk_at dksX2_law_3 19 rfl rfl)
theorem dX2_law_91 : decode cX2_law 91 = .ok (.aconst_null, 1) := dk_1 (dk_at dksX2_law_3 22 rfl rfl)
theorem dX2_law_92 : decode cX2_law 92 = .ok (.astore 5, 2) := dk_58 5 (dk_at dksX2_law_4 0 rfl rfl)
theorem dX2_law_94 : decode cX2_law 94 = .ok (.aload_n 0, 1) := dk_42 (dk_at dksX2_law_4 2 rfl rfl)
theorem dX2_law_95 : decode cX2_law 95 = .ok (.getfield 46, 3) := dk_180 0 46 (dk_at dksX2_law_4 3 rfl rfl)
theorem dX2_law_98 : decode cX2_law 98 = .ok (.iload_n 2, 1) := dk_28 (dk_at dksX2_law_4 6 rfl rfl)
theorem dX2_law_99 : decode cX2_law 99 = .ok (.iload_n 3, 1) := dk_29 (dk_at dksX2_law_4 7 rfl rfl)
theorem dX2_law_100 : decode cX2_law 100 = .ok (.ifCond .ne 17, 3) := dk_154 0 17 (dk_at dksX2_law_4 8 rfl rfl)
theorem dX2_law_103 : decode cX2_law 103 = .ok (.new 207, 3) := dk_187 0 207 (dk_at dksX2_law_4 11 rfl rfl)
theorem dX2_law_106 : decode cX2_law 106 = .ok (.dup, 1) := dk_89 (dk_at dksX2_law_4 14 rfl rfl)
theorem dX2_law_107 : decode cX2_law 107 = .ok (.iload 4, 2) := dk_21 4 (dk_at dksX2_law_4 15 rfl rfl)
theorem dX2_law_109 : decode cX2_law 109 = .ok (.aload 5, 2) := dk_25 5 (dk_at dksX2_law_4 17 rfl rfl)
theorem dX2_law_111 : decode cX2_law 111 = .ok (.invokespecial 209, 3) := dk_183 0 209 (dk_at dksX2_law_4 19 rfl rfl)
theorem dX2_law_114 : decode cX2_law 114 = .ok (.goto 31, 3) := dk_167 0 31 (dk_at dksX2_law_5 0 rfl rfl)
theorem dX2_law_117 : decode cX2_law 117 = .ok (.iload_n 3, 1) := dk_29 (dk_at dksX2_law_5 3 rfl rfl)
theorem dX2_law_118 : decode cX2_law 118 = .ok (.iconst 1, 1) := dk_4 (dk_at dksX2_law_5 4 rfl rfl)
theorem dX2_law_119 : decode cX2_law 119 = .ok (.if_icmp .ne 17, 3) := dk_160 0 17 (dk_at dksX2_law_5 5 rfl rfl)
theorem dX2_law_122 : decode cX2_law 122 = .ok (.new 212, 3) := dk_187 0 212 (dk_at dksX2_law_5 8 rfl rfl)
theorem dX2_law_125 : decode cX2_law 125 = .ok (.dup, 1) := dk_89 (dk_at dksX2_law_5 11 rfl rfl)
theorem dX2_law_126 : decode cX2_law 126 = .ok (.iload 4, 2) := dk_21 4 (dk_at dksX2_law_5 12 rfl rfl)
theorem dX2_law_128 : decode cX2_law 128 = .ok (.aload 5, 2) := dk_25 5 (dk_at dksX2_law_5 14 rfl rfl)
theorem dX2_law_130 : decode cX2_law 130 = .ok (.invokespecial 214, 3) := dk_183 0 214 (dk_at dksX2_law_5 16 rfl rfl)
theorem dX2_law_133 : decode cX2_law 133 = .ok (.goto 12, 3) := dk_167 0 12 (dk_at dksX2_law_5 19 rfl rfl)
theorem dX2_law_136 : decode cX2_law 136 = .ok (.new 215, 3) := dk_187 0 215 (dk_at dksX2_law_6 0 rfl rfl)
theorem dX2_law_139 : decode cX2_law 139 = .ok (.dup, 1) := dk_89 (dk_at dksX2_law_6 3 rfl rfl)
theorem dX2_law_140 : decode cX2_law 140 = .ok (.aload 5, 2) := dk_25 5 (dk_at dksX2_law_6 4 rfl rfl)
theorem dX2_law_142 : decode cX2_law 142 = .ok (.invokespecial 217, 3) := dk_183 0 217 (dk_at dksX2_law_6 6 rfl rfl)
theorem dX2_law_145 : decode cX2_law 145 = .ok (.aastore, 1) := dk_83 (dk_at dksX2_law_6 9 rfl rfl)
theorem dX2_law_146 : decode cX2_law 146 = .ok (.iinc 2 1, 3) := dk_132 2 1 (dk_at dksX2_law_6 10 rfl rfl)
theorem dX2_law_149 : decode cX2_law 149 = .ok (.goto (-142), 3) := dk_167 255 114 (dk_at dksX2_law_6 13 rfl rfl)
theorem dX2_law_152 : decode cX2_law 152 = .ok (.iload_n 2, 1) := dk_28 (dk_at dksX2_law_6 16 rfl rfl)
theorem dX2_law_153 : decode cX2_law 153 = .ok (.ireturn, 1) := dk_172 (dk_at dksX2_law_6 17 rfl rfl)
abbrev cX2_row : ByteArray := prog_8_method_18_code
def yX2_row : MethodName := ⟨RX2, "row", "(Z)LBorrowedLuck$Cond;"⟩
def dkwX2_row_3 : List UInt8 := [181, 0, 233, 45, 180, 0, 233, 78, 167, 255, 205, 44, 176]
abbrev dktX2_row_3 : List UInt8 := dkwX2_row_3 ++ []
def dkwX2_row_2 : List UInt8 := [187, 0, 220, 89, 27, 153, 0, 10, 42, 182, 0, 222, 167, 0, 8, 42, 4, 182, 0, 204, 27, 183, 0, 226]
abbrev dktX2_row_2 : List UInt8 := dkwX2_row_2 ++ dktX2_row_3
def dkwX2_row_1 : List UInt8 := [77, 44, 78, 42, 27, 153, 0, 8, 18, 229, 167, 0, 5, 18, 231, 182, 0, 85, 153, 0, 39, 45]
abbrev dktX2_row_1 : List UInt8 := dkwX2_row_1 ++ dktX2_row_2
def dkwX2_row_0 : List UInt8 := [187, 0, 220, 89, 27, 153, 0, 10, 42, 182, 0, 222, 167, 0, 8, 42, 4, 182, 0, 204, 27, 183, 0, 226]
abbrev dktX2_row_0 : List UInt8 := dkwX2_row_0 ++ dktX2_row_1
theorem dksX2_row_0 : cX2_row.data.toList.drop 0 = dktX2_row_0 := by decide +kernel
theorem dksX2_row_1 : cX2_row.data.toList.drop 24 = dktX2_row_1 := dk_seg dksX2_row_0 24 rfl rfl
theorem dksX2_row_2 : cX2_row.data.toList.drop 46 = dktX2_row_2 := dk_seg dksX2_row_1 22 rfl rfl
theorem dksX2_row_3 : cX2_row.data.toList.drop 70 = dktX2_row_3 := dk_seg dksX2_row_2 24 rfl rfl
theorem dX2_row_0 : decode cX2_row 0 = .ok (.new 220, 3) := dk_187 0 220 (dk_at dksX2_row_0 0 rfl rfl)
theorem dX2_row_3 : decode cX2_row 3 = .ok (.dup, 1) := dk_89 (dk_at dksX2_row_0 3 rfl rfl)
theorem dX2_row_4 : decode cX2_row 4 = .ok (.iload_n 1, 1) := dk_27 (dk_at dksX2_row_0 4 rfl rfl)
theorem dX2_row_5 : decode cX2_row 5 = .ok (.ifCond .eq 10, 3) := dk_153 0 10 (dk_at dksX2_row_0 5 rfl rfl)
theorem dX2_row_8 : decode cX2_row 8 = .ok (.aload_n 0, 1) := dk_42 (dk_at dksX2_row_0 8 rfl rfl)
theorem dX2_row_9 : decode cX2_row 9 = .ok (.invokevirtual 222, 3) := dk_182 0 222 (dk_at dksX2_row_0 9 rfl rfl)
theorem dX2_row_12 : decode cX2_row 12 = .ok (.goto 8, 3) := dk_167 0 8 (dk_at dksX2_row_0 12 rfl rfl)
theorem dX2_row_15 : decode cX2_row 15 = .ok (.aload_n 0, 1) := dk_42 (dk_at dksX2_row_0 15 rfl rfl)
theorem dX2_row_16 : decode cX2_row 16 = .ok (.iconst 1, 1) := dk_4 (dk_at dksX2_row_0 16 rfl rfl)
theorem dX2_row_17 : decode cX2_row 17 = .ok (.invokevirtual 204, 3) := dk_182 0 204 (dk_at dksX2_row_0 17 rfl rfl)
theorem dX2_row_20 : decode cX2_row 20 = .ok (.iload_n 1, 1) := dk_27 (dk_at dksX2_row_0 20 rfl rfl)
theorem dX2_row_21 : decode cX2_row 21 = .ok (.invokespecial 226, 3) := dk_183 0 226 (dk_at dksX2_row_0 21 rfl rfl)
theorem dX2_row_24 : decode cX2_row 24 = .ok (.astore_n 2, 1) := dk_77 (dk_at dksX2_row_1 0 rfl rfl)
theorem dX2_row_25 : decode cX2_row 25 = .ok (.aload_n 2, 1) := dk_44 (dk_at dksX2_row_1 1 rfl rfl)
theorem dX2_row_26 : decode cX2_row 26 = .ok (.astore_n 3, 1) := dk_78 (dk_at dksX2_row_1 2 rfl rfl)
theorem dX2_row_27 : decode cX2_row 27 = .ok (.aload_n 0, 1) := dk_42 (dk_at dksX2_row_1 3 rfl rfl)
theorem dX2_row_28 : decode cX2_row 28 = .ok (.iload_n 1, 1) := dk_27 (dk_at dksX2_row_1 4 rfl rfl)
theorem dX2_row_29 : decode cX2_row 29 = .ok (.ifCond .eq 8, 3) := dk_153 0 8 (dk_at dksX2_row_1 5 rfl rfl)
theorem dX2_row_32 : decode cX2_row 32 = .ok (.ldc 229, 2) := dk_18 229 (dk_at dksX2_row_1 8 rfl rfl)
theorem dX2_row_34 : decode cX2_row 34 = .ok (.goto 5, 3) := dk_167 0 5 (dk_at dksX2_row_1 10 rfl rfl)
theorem dX2_row_37 : decode cX2_row 37 = .ok (.ldc 231, 2) := dk_18 231 (dk_at dksX2_row_1 13 rfl rfl)
theorem dX2_row_39 : decode cX2_row 39 = .ok (.invokevirtual 85, 3) := dk_182 0 85 (dk_at dksX2_row_1 15 rfl rfl)
theorem dX2_row_42 : decode cX2_row 42 = .ok (.ifCond .eq 39, 3) := dk_153 0 39 (dk_at dksX2_row_1 18 rfl rfl)
theorem dX2_row_45 : decode cX2_row 45 = .ok (.aload_n 3, 1) := dk_45 (dk_at dksX2_row_1 21 rfl rfl)
theorem dX2_row_46 : decode cX2_row 46 = .ok (.new 220, 3) := dk_187 0 220 (dk_at dksX2_row_2 0 rfl rfl)
theorem dX2_row_49 : decode cX2_row 49 = .ok (.dup, 1) := dk_89 (dk_at dksX2_row_2 3 rfl rfl)
theorem dX2_row_50 : decode cX2_row 50 = .ok (.iload_n 1, 1) := dk_27 (dk_at dksX2_row_2 4 rfl rfl)
theorem dX2_row_51 : decode cX2_row 51 = .ok (.ifCond .eq 10, 3) := dk_153 0 10 (dk_at dksX2_row_2 5 rfl rfl)
theorem dX2_row_54 : decode cX2_row 54 = .ok (.aload_n 0, 1) := dk_42 (dk_at dksX2_row_2 8 rfl rfl)
theorem dX2_row_55 : decode cX2_row 55 = .ok (.invokevirtual 222, 3) := dk_182 0 222 (dk_at dksX2_row_2 9 rfl rfl)
theorem dX2_row_58 : decode cX2_row 58 = .ok (.goto 8, 3) := dk_167 0 8 (dk_at dksX2_row_2 12 rfl rfl)
theorem dX2_row_61 : decode cX2_row 61 = .ok (.aload_n 0, 1) := dk_42 (dk_at dksX2_row_2 15 rfl rfl)
theorem dX2_row_62 : decode cX2_row 62 = .ok (.iconst 1, 1) := dk_4 (dk_at dksX2_row_2 16 rfl rfl)
theorem dX2_row_63 : decode cX2_row 63 = .ok (.invokevirtual 204, 3) := dk_182 0 204 (dk_at dksX2_row_2 17 rfl rfl)
theorem dX2_row_66 : decode cX2_row 66 = .ok (.iload_n 1, 1) := dk_27 (dk_at dksX2_row_2 20 rfl rfl)
theorem dX2_row_67 : decode cX2_row 67 = .ok (.invokespecial 226, 3) := dk_183 0 226 (dk_at dksX2_row_2 21 rfl rfl)
theorem dX2_row_70 : decode cX2_row 70 = .ok (.putfield 233, 3) := dk_181 0 233 (dk_at dksX2_row_3 0 rfl rfl)
theorem dX2_row_73 : decode cX2_row 73 = .ok (.aload_n 3, 1) := dk_45 (dk_at dksX2_row_3 3 rfl rfl)
theorem dX2_row_74 : decode cX2_row 74 = .ok (.getfield 233, 3) := dk_180 0 233 (dk_at dksX2_row_3 4 rfl rfl)
theorem dX2_row_77 : decode cX2_row 77 = .ok (.astore_n 3, 1) := dk_78 (dk_at dksX2_row_3 7 rfl rfl)
theorem dX2_row_78 : decode cX2_row 78 = .ok (.goto (-51), 3) := dk_167 255 205 (dk_at dksX2_row_3 8 rfl rfl)
theorem dX2_row_81 : decode cX2_row 81 = .ok (.aload_n 2, 1) := dk_44 (dk_at dksX2_row_3 11 rfl rfl)
theorem dX2_row_82 : decode cX2_row 82 = .ok (.areturn, 1) := dk_176 (dk_at dksX2_row_3 12 rfl rfl)
abbrev cX2_atom : ByteArray := prog_8_method_19_code
def yX2_atom : MethodName := ⟨RX2, "atom", "()LBorrowedLuck$Cond;"⟩
def dkwX2_atom_5 : List UInt8 := [181, 0, 68, 42, 89, 180, 0, 104, 4, 100, 181, 0, 104, 25, 4, 176]
abbrev dktX2_atom_5 : List UInt8 := dkwX2_atom_5 ++ []
def dkwX2_atom_4 : List UInt8 := [182, 0, 74, 16, 41, 159, 0, 11, 42, 42, 180, 0, 68, 182, 0, 89, 42, 89, 180, 0, 68, 4, 96]
abbrev dktX2_atom_4 : List UInt8 := dkwX2_atom_4 ++ dktX2_atom_5
def dkwX2_atom_3 : List UInt8 := [58, 4, 167, 0, 47, 42, 89, 180, 0, 68, 4, 96, 181, 0, 68, 42, 3, 182, 0, 204, 58, 4, 42]
abbrev dktX2_atom_3 : List UInt8 := dkwX2_atom_3 ++ dktX2_atom_4
def dkwX2_atom_2 : List UInt8 := [180, 0, 104, 4, 96, 181, 0, 104, 29, 153, 0, 19, 187, 0, 242, 89, 42, 182, 0, 222, 183, 0, 244]
abbrev dktX2_atom_2 : List UInt8 := dkwX2_atom_2 ++ dktX2_atom_3
def dkwX2_atom_1 : List UInt8 := [159, 0, 8, 42, 182, 0, 239, 176, 42, 180, 0, 104, 16, 6, 160, 0, 8, 42, 28, 182, 0, 89, 42, 89]
abbrev dktX2_atom_1 : List UInt8 := dkwX2_atom_1 ++ dktX2_atom_2
def dkwX2_atom_0 : List UInt8 := [42, 182, 0, 74, 60, 42, 180, 0, 68, 61, 42, 18, 237, 182, 0, 85, 62, 29, 154, 0, 14, 27, 16, 40]
abbrev dktX2_atom_0 : List UInt8 := dkwX2_atom_0 ++ dktX2_atom_1
theorem dksX2_atom_0 : cX2_atom.data.toList.drop 0 = dktX2_atom_0 := by decide +kernel
theorem dksX2_atom_1 : cX2_atom.data.toList.drop 24 = dktX2_atom_1 := dk_seg dksX2_atom_0 24 rfl rfl
theorem dksX2_atom_2 : cX2_atom.data.toList.drop 48 = dktX2_atom_2 := dk_seg dksX2_atom_1 24 rfl rfl
theorem dksX2_atom_3 : cX2_atom.data.toList.drop 71 = dktX2_atom_3 := dk_seg dksX2_atom_2 23 rfl rfl
theorem dksX2_atom_4 : cX2_atom.data.toList.drop 94 = dktX2_atom_4 := dk_seg dksX2_atom_3 23 rfl rfl
theorem dksX2_atom_5 : cX2_atom.data.toList.drop 117 = dktX2_atom_5 := dk_seg dksX2_atom_4 23 rfl rfl
theorem dX2_atom_0 : decode cX2_atom 0 = .ok (.aload_n 0, 1) := dk_42 (dk_at dksX2_atom_0 0 rfl rfl)
theorem dX2_atom_1 : decode cX2_atom 1 = .ok (.invokevirtual 74, 3) := dk_182 0 74 (dk_at dksX2_atom_0 1 rfl rfl)
theorem dX2_atom_4 : decode cX2_atom 4 = .ok (.istore_n 1, 1) := dk_60 (dk_at dksX2_atom_0 4 rfl rfl)
theorem dX2_atom_5 : decode cX2_atom 5 = .ok (.aload_n 0, 1) := dk_42 (dk_at dksX2_atom_0 5 rfl rfl)
theorem dX2_atom_6 : decode cX2_atom 6 = .ok (.getfield 68, 3) := dk_180 0 68 (dk_at dksX2_atom_0 6 rfl rfl)
theorem dX2_atom_9 : decode cX2_atom 9 = .ok (.istore_n 2, 1) := dk_61 (dk_at dksX2_atom_0 9 rfl rfl)
theorem dX2_atom_10 : decode cX2_atom 10 = .ok (.aload_n 0, 1) := dk_42 (dk_at dksX2_atom_0 10 rfl rfl)
theorem dX2_atom_11 : decode cX2_atom 11 = .ok (.ldc 237, 2) := dk_18 237 (dk_at dksX2_atom_0 11 rfl rfl)
theorem dX2_atom_13 : decode cX2_atom 13 = .ok (.invokevirtual 85, 3) := dk_182 0 85 (dk_at dksX2_atom_0 13 rfl rfl)
theorem dX2_atom_16 : decode cX2_atom 16 = .ok (.istore_n 3, 1) := dk_62 (dk_at dksX2_atom_0 16 rfl rfl)
theorem dX2_atom_17 : decode cX2_atom 17 = .ok (.iload_n 3, 1) := dk_29 (dk_at dksX2_atom_0 17 rfl rfl)
theorem dX2_atom_18 : decode cX2_atom 18 = .ok (.ifCond .ne 14, 3) := dk_154 0 14 (dk_at dksX2_atom_0 18 rfl rfl)
theorem dX2_atom_21 : decode cX2_atom 21 = .ok (.iload_n 1, 1) := dk_27 (dk_at dksX2_atom_0 21 rfl rfl)
theorem dX2_atom_22 : decode cX2_atom 22 = .ok (.bipush 40, 2) := dk_16 40 (dk_at dksX2_atom_0 22 rfl rfl)
theorem dX2_atom_24 : decode cX2_atom 24 = .ok (.if_icmp .eq 8, 3) := dk_159 0 8 (dk_at dksX2_atom_1 0 rfl rfl)
theorem dX2_atom_27 : decode cX2_atom 27 = .ok (.aload_n 0, 1) := dk_42 (dk_at dksX2_atom_1 3 rfl rfl)
theorem dX2_atom_28 : decode cX2_atom 28 = .ok (.invokevirtual 239, 3) := dk_182 0 239 (dk_at dksX2_atom_1 4 rfl rfl)
theorem dX2_atom_31 : decode cX2_atom 31 = .ok (.areturn, 1) := dk_176 (dk_at dksX2_atom_1 7 rfl rfl)
theorem dX2_atom_32 : decode cX2_atom 32 = .ok (.aload_n 0, 1) := dk_42 (dk_at dksX2_atom_1 8 rfl rfl)
theorem dX2_atom_33 : decode cX2_atom 33 = .ok (.getfield 104, 3) := dk_180 0 104 (dk_at dksX2_atom_1 9 rfl rfl)
theorem dX2_atom_36 : decode cX2_atom 36 = .ok (.bipush 6, 2) := dk_16 6 (dk_at dksX2_atom_1 12 rfl rfl)
theorem dX2_atom_38 : decode cX2_atom 38 = .ok (.if_icmp .ne 8, 3) := dk_160 0 8 (dk_at dksX2_atom_1 14 rfl rfl)
theorem dX2_atom_41 : decode cX2_atom 41 = .ok (.aload_n 0, 1) := dk_42 (dk_at dksX2_atom_1 17 rfl rfl)
theorem dX2_atom_42 : decode cX2_atom 42 = .ok (.iload_n 2, 1) := dk_28 (dk_at dksX2_atom_1 18 rfl rfl)
theorem dX2_atom_43 : decode cX2_atom 43 = .ok (.invokevirtual 89, 3) := dk_182 0 89 (dk_at dksX2_atom_1 19 rfl rfl)
theorem dX2_atom_46 : decode cX2_atom 46 = .ok (.aload_n 0, 1) := dk_42 (dk_at dksX2_atom_1 22 rfl rfl)
theorem dX2_atom_47 : decode cX2_atom 47 = .ok (.dup, 1) := dk_89 (dk_at dksX2_atom_1 23 rfl rfl)
theorem dX2_atom_48 : decode cX2_atom 48 = .ok (.getfield 104, 3) := dk_180 0 104 (dk_at dksX2_atom_2 0 rfl rfl)
theorem dX2_atom_51 : decode cX2_atom 51 = .ok (.iconst 1, 1) := dk_4 (dk_at dksX2_atom_2 3 rfl rfl)
theorem dX2_atom_52 : decode cX2_atom 52 = .ok (.iadd, 1) := dk_96 (dk_at dksX2_atom_2 4 rfl rfl)
theorem dX2_atom_53 : decode cX2_atom 53 = .ok (.putfield 104, 3) := dk_181 0 104 (dk_at dksX2_atom_2 5 rfl rfl)
theorem dX2_atom_56 : decode cX2_atom 56 = .ok (.iload_n 3, 1) := dk_29 (dk_at dksX2_atom_2 8 rfl rfl)
theorem dX2_atom_57 : decode cX2_atom 57 = .ok (.ifCond .eq 19, 3) := dk_153 0 19 (dk_at dksX2_atom_2 9 rfl rfl)
theorem dX2_atom_60 : decode cX2_atom 60 = .ok (.new 242, 3) := dk_187 0 242 (dk_at dksX2_atom_2 12 rfl rfl)
theorem dX2_atom_63 : decode cX2_atom 63 = .ok (.dup, 1) := dk_89 (dk_at dksX2_atom_2 15 rfl rfl)
theorem dX2_atom_64 : decode cX2_atom 64 = .ok (.aload_n 0, 1) := dk_42 (dk_at dksX2_atom_2 16 rfl rfl)
theorem dX2_atom_65 : decode cX2_atom 65 = .ok (.invokevirtual 222, 3) := dk_182 0 222 (dk_at dksX2_atom_2 17 rfl rfl)
theorem dX2_atom_68 : decode cX2_atom 68 = .ok (.invokespecial 244, 3) := dk_183 0 244 (dk_at dksX2_atom_2 20 rfl rfl)
theorem dX2_atom_71 : decode cX2_atom 71 = .ok (.astore 4, 2) := dk_58 4 (dk_at dksX2_atom_3 0 rfl rfl)
theorem dX2_atom_73 : decode cX2_atom 73 = .ok (.goto 47, 3) := dk_167 0 47 (dk_at dksX2_atom_3 2 rfl rfl)
theorem dX2_atom_76 : decode cX2_atom 76 = .ok (.aload_n 0, 1) := dk_42 (dk_at dksX2_atom_3 5 rfl rfl)
theorem dX2_atom_77 : decode cX2_atom 77 = .ok (.dup, 1) := dk_89 (dk_at dksX2_atom_3 6 rfl rfl)
theorem dX2_atom_78 : decode cX2_atom 78 = .ok (.getfield 68, 3) := dk_180 0 68 (dk_at dksX2_atom_3 7 rfl rfl)
theorem dX2_atom_81 : decode cX2_atom 81 = .ok (.iconst 1, 1) := dk_4 (dk_at dksX2_atom_3 10 rfl rfl)
theorem dX2_atom_82 : decode cX2_atom 82 = .ok (.iadd, 1) := dk_96 (dk_at dksX2_atom_3 11 rfl rfl)
theorem dX2_atom_83 : decode cX2_atom 83 = .ok (.putfield 68, 3) := dk_181 0 68 (dk_at dksX2_atom_3 12 rfl rfl)
theorem dX2_atom_86 : decode cX2_atom 86 = .ok (.aload_n 0, 1) := dk_42 (dk_at dksX2_atom_3 15 rfl rfl)
theorem dX2_atom_87 : decode cX2_atom 87 = .ok (.iconst 0, 1) := dk_3 (dk_at dksX2_atom_3 16 rfl rfl)
theorem dX2_atom_88 : decode cX2_atom 88 = .ok (.invokevirtual 204, 3) := dk_182 0 204 (dk_at dksX2_atom_3 17 rfl rfl)
theorem dX2_atom_91 : decode cX2_atom 91 = .ok (.astore 4, 2) := dk_58 4 (dk_at dksX2_atom_3 20 rfl rfl)
theorem dX2_atom_93 : decode cX2_atom 93 = .ok (.aload_n 0, 1) := dk_42 (dk_at dksX2_atom_3 22 rfl rfl)
theorem dX2_atom_94 : decode cX2_atom 94 = .ok (.invokevirtual 74, 3) := dk_182 0 74 (dk_at dksX2_atom_4 0 rfl rfl)
theorem dX2_atom_97 : decode cX2_atom 97 = .ok (.bipush 41, 2) := dk_16 41 (dk_at dksX2_atom_4 3 rfl rfl)
theorem dX2_atom_99 : decode cX2_atom 99 = .ok (.if_icmp .eq 11, 3) := dk_159 0 11 (dk_at dksX2_atom_4 5 rfl rfl)
theorem dX2_atom_102 : decode cX2_atom 102 = .ok (.aload_n 0, 1) := dk_42 (dk_at dksX2_atom_4 8 rfl rfl)
theorem dX2_atom_103 : decode cX2_atom 103 = .ok (.aload_n 0, 1) := dk_42 (dk_at dksX2_atom_4 9 rfl rfl)
theorem dX2_atom_104 : decode cX2_atom 104 = .ok (.getfield 68, 3) := dk_180 0 68 (dk_at dksX2_atom_4 10 rfl rfl)
theorem dX2_atom_107 : decode cX2_atom 107 = .ok (.invokevirtual 89, 3) := dk_182 0 89 (dk_at dksX2_atom_4 13 rfl rfl)
theorem dX2_atom_110 : decode cX2_atom 110 = .ok (.aload_n 0, 1) := dk_42 (dk_at dksX2_atom_4 16 rfl rfl)
theorem dX2_atom_111 : decode cX2_atom 111 = .ok (.dup, 1) := dk_89 (dk_at dksX2_atom_4 17 rfl rfl)
theorem dX2_atom_112 : decode cX2_atom 112 = .ok (.getfield 68, 3) := dk_180 0 68 (dk_at dksX2_atom_4 18 rfl rfl)
theorem dX2_atom_115 : decode cX2_atom 115 = .ok (.iconst 1, 1) := dk_4 (dk_at dksX2_atom_4 21 rfl rfl)
theorem dX2_atom_116 : decode cX2_atom 116 = .ok (.iadd, 1) := dk_96 (dk_at dksX2_atom_4 22 rfl rfl)
theorem dX2_atom_117 : decode cX2_atom 117 = .ok (.putfield 68, 3) := dk_181 0 68 (dk_at dksX2_atom_5 0 rfl rfl)
theorem dX2_atom_120 : decode cX2_atom 120 = .ok (.aload_n 0, 1) := dk_42 (dk_at dksX2_atom_5 3 rfl rfl)
theorem dX2_atom_121 : decode cX2_atom 121 = .ok (.dup, 1) := dk_89 (dk_at dksX2_atom_5 4 rfl rfl)
theorem dX2_atom_122 : decode cX2_atom 122 = .ok (.getfield 104, 3) := dk_180 0 104 (dk_at dksX2_atom_5 5 rfl rfl)
theorem dX2_atom_125 : decode cX2_atom 125 = .ok (.iconst 1, 1) := dk_4 (dk_at dksX2_atom_5 8 rfl rfl)
theorem dX2_atom_126 : decode cX2_atom 126 = .ok (.isub, 1) := dk_100 (dk_at dksX2_atom_5 9 rfl rfl)
theorem dX2_atom_127 : decode cX2_atom 127 = .ok (.putfield 104, 3) := dk_181 0 104 (dk_at dksX2_atom_5 10 rfl rfl)
theorem dX2_atom_130 : decode cX2_atom 130 = .ok (.aload 4, 2) := dk_25 4 (dk_at dksX2_atom_5 13 rfl rfl)
theorem dX2_atom_132 : decode cX2_atom 132 = .ok (.areturn, 1) := dk_176 (dk_at dksX2_atom_5 15 rfl rfl)
abbrev cX2_tag : ByteArray := prog_8_method_20_code
def yX2_tag : MethodName := ⟨RX2, "tag", "()LBorrowedLuck$Cond;"⟩
def dkwX2_tag_4 : List UInt8 := [89, 43, 45, 183, 0, 255, 167, 0, 12, 187, 0, 253, 89, 45, 43, 183, 0, 255, 176]
abbrev dktX2_tag_4 : List UInt8 := dkwX2_tag_4 ++ []
def dkwX2_tag_3 : List UInt8 := [42, 89, 180, 0, 68, 4, 96, 181, 0, 68, 42, 182, 0, 249, 78, 28, 16, 60, 160, 0, 15, 187, 0, 253]
abbrev dktX2_tag_3 : List UInt8 := dkwX2_tag_3 ++ dktX2_tag_4
def dkwX2_tag_2 : List UInt8 := [182, 0, 74, 61, 28, 16, 60, 159, 0, 17, 28, 16, 62, 159, 0, 11, 42, 42, 180, 0, 68, 182, 0, 89]
abbrev dktX2_tag_2 : List UInt8 := dkwX2_tag_2 ++ dktX2_tag_3
def dkwX2_tag_1 : List UInt8 := [187, 0, 245, 89, 16, 7, 27, 96, 183, 0, 247, 176, 132, 1, 1, 167, 255, 219, 42, 182, 0, 249, 76, 42]
abbrev dktX2_tag_1 : List UInt8 := dkwX2_tag_1 ++ dktX2_tag_2
def dkwX2_tag_0 : List UInt8 := [3, 60, 27, 42, 180, 0, 41, 190, 162, 0, 34, 42, 42, 180, 0, 41, 27, 50, 182, 0, 85, 153, 0, 15]
abbrev dktX2_tag_0 : List UInt8 := dkwX2_tag_0 ++ dktX2_tag_1
theorem dksX2_tag_0 : cX2_tag.data.toList.drop 0 = dktX2_tag_0 := by decide +kernel
theorem dksX2_tag_1 : cX2_tag.data.toList.drop 24 = dktX2_tag_1 := dk_seg dksX2_tag_0 24 rfl rfl
theorem dksX2_tag_2 : cX2_tag.data.toList.drop 48 = dktX2_tag_2 := dk_seg dksX2_tag_1 24 rfl rfl
theorem dksX2_tag_3 : cX2_tag.data.toList.drop 72 = dktX2_tag_3 := dk_seg dksX2_tag_2 24 rfl rfl
theorem dksX2_tag_4 : cX2_tag.data.toList.drop 96 = dktX2_tag_4 := dk_seg dksX2_tag_3 24 rfl rfl
theorem dX2_tag_0 : decode cX2_tag 0 = .ok (.iconst 0, 1) := dk_3 (dk_at dksX2_tag_0 0 rfl rfl)
theorem dX2_tag_1 : decode cX2_tag 1 = .ok (.istore_n 1, 1) := dk_60 (dk_at dksX2_tag_0 1 rfl rfl)
theorem dX2_tag_2 : decode cX2_tag 2 = .ok (.iload_n 1, 1) := dk_27 (dk_at dksX2_tag_0 2 rfl rfl)
theorem dX2_tag_3 : decode cX2_tag 3 = .ok (.aload_n 0, 1) := dk_42 (dk_at dksX2_tag_0 3 rfl rfl)
theorem dX2_tag_4 : decode cX2_tag 4 = .ok (.getfield 41, 3) := dk_180 0 41 (dk_at dksX2_tag_0 4 rfl rfl)
theorem dX2_tag_7 : decode cX2_tag 7 = .ok (.arraylength, 1) := dk_190 (dk_at dksX2_tag_0 7 rfl rfl)
theorem dX2_tag_8 : decode cX2_tag 8 = .ok (.if_icmp .ge 34, 3) := dk_162 0 34 (dk_at dksX2_tag_0 8 rfl rfl)
theorem dX2_tag_11 : decode cX2_tag 11 = .ok (.aload_n 0, 1) := dk_42 (dk_at dksX2_tag_0 11 rfl rfl)
theorem dX2_tag_12 : decode cX2_tag 12 = .ok (.aload_n 0, 1) := dk_42 (dk_at dksX2_tag_0 12 rfl rfl)
theorem dX2_tag_13 : decode cX2_tag 13 = .ok (.getfield 41, 3) := dk_180 0 41 (dk_at dksX2_tag_0 13 rfl rfl)
theorem dX2_tag_16 : decode cX2_tag 16 = .ok (.iload_n 1, 1) := dk_27 (dk_at dksX2_tag_0 16 rfl rfl)
theorem dX2_tag_17 : decode cX2_tag 17 = .ok (.aaload, 1) := dk_50 (dk_at dksX2_tag_0 17 rfl rfl)
theorem dX2_tag_18 : decode cX2_tag 18 = .ok (.invokevirtual 85, 3) := dk_182 0 85 (dk_at dksX2_tag_0 18 rfl rfl)
theorem dX2_tag_21 : decode cX2_tag 21 = .ok (.ifCond .eq 15, 3) := dk_153 0 15 (dk_at dksX2_tag_0 21 rfl rfl)
theorem dX2_tag_24 : decode cX2_tag 24 = .ok (.new 245, 3) := dk_187 0 245 (dk_at dksX2_tag_1 0 rfl rfl)
theorem dX2_tag_27 : decode cX2_tag 27 = .ok (.dup, 1) := dk_89 (dk_at dksX2_tag_1 3 rfl rfl)
theorem dX2_tag_28 : decode cX2_tag 28 = .ok (.bipush 7, 2) := dk_16 7 (dk_at dksX2_tag_1 4 rfl rfl)
theorem dX2_tag_30 : decode cX2_tag 30 = .ok (.iload_n 1, 1) := dk_27 (dk_at dksX2_tag_1 6 rfl rfl)
theorem dX2_tag_31 : decode cX2_tag 31 = .ok (.iadd, 1) := dk_96 (dk_at dksX2_tag_1 7 rfl rfl)
theorem dX2_tag_32 : decode cX2_tag 32 = .ok (.invokespecial 247, 3) := dk_183 0 247 (dk_at dksX2_tag_1 8 rfl rfl)
theorem dX2_tag_35 : decode cX2_tag 35 = .ok (.areturn, 1) := dk_176 (dk_at dksX2_tag_1 11 rfl rfl)
theorem dX2_tag_36 : decode cX2_tag 36 = .ok (.iinc 1 1, 3) := dk_132 1 1 (dk_at dksX2_tag_1 12 rfl rfl)
theorem dX2_tag_39 : decode cX2_tag 39 = .ok (.goto (-37), 3) := dk_167 255 219 (dk_at dksX2_tag_1 15 rfl rfl)
theorem dX2_tag_42 : decode cX2_tag 42 = .ok (.aload_n 0, 1) := dk_42 (dk_at dksX2_tag_1 18 rfl rfl)
theorem dX2_tag_43 : decode cX2_tag 43 = .ok (.invokevirtual 249, 3) := dk_182 0 249 (dk_at dksX2_tag_1 19 rfl rfl)
theorem dX2_tag_46 : decode cX2_tag 46 = .ok (.astore_n 1, 1) := dk_76 (dk_at dksX2_tag_1 22 rfl rfl)
theorem dX2_tag_47 : decode cX2_tag 47 = .ok (.aload_n 0, 1) := dk_42 (dk_at dksX2_tag_1 23 rfl rfl)
theorem dX2_tag_48 : decode cX2_tag 48 = .ok (.invokevirtual 74, 3) := dk_182 0 74 (dk_at dksX2_tag_2 0 rfl rfl)
theorem dX2_tag_51 : decode cX2_tag 51 = .ok (.istore_n 2, 1) := dk_61 (dk_at dksX2_tag_2 3 rfl rfl)
theorem dX2_tag_52 : decode cX2_tag 52 = .ok (.iload_n 2, 1) := dk_28 (dk_at dksX2_tag_2 4 rfl rfl)
theorem dX2_tag_53 : decode cX2_tag 53 = .ok (.bipush 60, 2) := dk_16 60 (dk_at dksX2_tag_2 5 rfl rfl)
theorem dX2_tag_55 : decode cX2_tag 55 = .ok (.if_icmp .eq 17, 3) := dk_159 0 17 (dk_at dksX2_tag_2 7 rfl rfl)
theorem dX2_tag_58 : decode cX2_tag 58 = .ok (.iload_n 2, 1) := dk_28 (dk_at dksX2_tag_2 10 rfl rfl)
theorem dX2_tag_59 : decode cX2_tag 59 = .ok (.bipush 62, 2) := dk_16 62 (dk_at dksX2_tag_2 11 rfl rfl)
theorem dX2_tag_61 : decode cX2_tag 61 = .ok (.if_icmp .eq 11, 3) := dk_159 0 11 (dk_at dksX2_tag_2 13 rfl rfl)
theorem dX2_tag_64 : decode cX2_tag 64 = .ok (.aload_n 0, 1) := dk_42 (dk_at dksX2_tag_2 16 rfl rfl)
theorem dX2_tag_65 : decode cX2_tag 65 = .ok (.aload_n 0, 1) := dk_42 (dk_at dksX2_tag_2 17 rfl rfl)
theorem dX2_tag_66 : decode cX2_tag 66 = .ok (.getfield 68, 3) := dk_180 0 68 (dk_at dksX2_tag_2 18 rfl rfl)
theorem dX2_tag_69 : decode cX2_tag 69 = .ok (.invokevirtual 89, 3) := dk_182 0 89 (dk_at dksX2_tag_2 21 rfl rfl)
theorem dX2_tag_72 : decode cX2_tag 72 = .ok (.aload_n 0, 1) := dk_42 (dk_at dksX2_tag_3 0 rfl rfl)
theorem dX2_tag_73 : decode cX2_tag 73 = .ok (.dup, 1) := dk_89 (dk_at dksX2_tag_3 1 rfl rfl)
theorem dX2_tag_74 : decode cX2_tag 74 = .ok (.getfield 68, 3) := dk_180 0 68 (dk_at dksX2_tag_3 2 rfl rfl)
theorem dX2_tag_77 : decode cX2_tag 77 = .ok (.iconst 1, 1) := dk_4 (dk_at dksX2_tag_3 5 rfl rfl)
theorem dX2_tag_78 : decode cX2_tag 78 = .ok (.iadd, 1) := dk_96 (dk_at dksX2_tag_3 6 rfl rfl)
theorem dX2_tag_79 : decode cX2_tag 79 = .ok (.putfield 68, 3) := dk_181 0 68 (dk_at dksX2_tag_3 7 rfl rfl)
theorem dX2_tag_82 : decode cX2_tag 82 = .ok (.aload_n 0, 1) := dk_42 (dk_at dksX2_tag_3 10 rfl rfl)
theorem dX2_tag_83 : decode cX2_tag 83 = .ok (.invokevirtual 249, 3) := dk_182 0 249 (dk_at dksX2_tag_3 11 rfl rfl)
theorem dX2_tag_86 : decode cX2_tag 86 = .ok (.astore_n 3, 1) := dk_78 (dk_at dksX2_tag_3 14 rfl rfl)
theorem dX2_tag_87 : decode cX2_tag 87 = .ok (.iload_n 2, 1) := dk_28 (dk_at dksX2_tag_3 15 rfl rfl)
theorem dX2_tag_88 : decode cX2_tag 88 = .ok (.bipush 60, 2) := dk_16 60 (dk_at dksX2_tag_3 16 rfl rfl)
theorem dX2_tag_90 : decode cX2_tag 90 = .ok (.if_icmp .ne 15, 3) := dk_160 0 15 (dk_at dksX2_tag_3 18 rfl rfl)
theorem dX2_tag_93 : decode cX2_tag 93 = .ok (.new 253, 3) := dk_187 0 253 (dk_at dksX2_tag_3 21 rfl rfl)
theorem dX2_tag_96 : decode cX2_tag 96 = .ok (.dup, 1) := dk_89 (dk_at dksX2_tag_4 0 rfl rfl)
theorem dX2_tag_97 : decode cX2_tag 97 = .ok (.aload_n 1, 1) := dk_43 (dk_at dksX2_tag_4 1 rfl rfl)
theorem dX2_tag_98 : decode cX2_tag 98 = .ok (.aload_n 3, 1) := dk_45 (dk_at dksX2_tag_4 2 rfl rfl)
theorem dX2_tag_99 : decode cX2_tag 99 = .ok (.invokespecial 255, 3) := dk_183 0 255 (dk_at dksX2_tag_4 3 rfl rfl)
theorem dX2_tag_102 : decode cX2_tag 102 = .ok (.goto 12, 3) := dk_167 0 12 (dk_at dksX2_tag_4 6 rfl rfl)
theorem dX2_tag_105 : decode cX2_tag 105 = .ok (.new 253, 3) := dk_187 0 253 (dk_at dksX2_tag_4 9 rfl rfl)
theorem dX2_tag_108 : decode cX2_tag 108 = .ok (.dup, 1) := dk_89 (dk_at dksX2_tag_4 12 rfl rfl)
theorem dX2_tag_109 : decode cX2_tag 109 = .ok (.aload_n 3, 1) := dk_45 (dk_at dksX2_tag_4 13 rfl rfl)
theorem dX2_tag_110 : decode cX2_tag 110 = .ok (.aload_n 1, 1) := dk_43 (dk_at dksX2_tag_4 14 rfl rfl)
theorem dX2_tag_111 : decode cX2_tag 111 = .ok (.invokespecial 255, 3) := dk_183 0 255 (dk_at dksX2_tag_4 15 rfl rfl)
theorem dX2_tag_114 : decode cX2_tag 114 = .ok (.areturn, 1) := dk_176 (dk_at dksX2_tag_4 18 rfl rfl)
abbrev cX2_sum : ByteArray := prog_8_method_21_code
def yX2_sum : MethodName := ⟨RX2, "sum", "()LBorrowedLuck$Sum;"⟩
def dkwX2_sum_1 : List UInt8 := [180, 0, 68, 4, 96, 181, 0, 68, 42, 43, 182, 1, 5, 167, 255, 232, 43, 176]
abbrev dktX2_sum_1 : List UInt8 := dkwX2_sum_1 ++ []
def dkwX2_sum_0 : List UInt8 := [187, 1, 2, 89, 183, 1, 4, 76, 42, 43, 182, 1, 5, 42, 182, 0, 74, 16, 43, 160, 0, 21, 42, 89]
abbrev dktX2_sum_0 : List UInt8 := dkwX2_sum_0 ++ dktX2_sum_1
theorem dksX2_sum_0 : cX2_sum.data.toList.drop 0 = dktX2_sum_0 := by decide +kernel
theorem dksX2_sum_1 : cX2_sum.data.toList.drop 24 = dktX2_sum_1 := dk_seg dksX2_sum_0 24 rfl rfl
theorem dX2_sum_0 : decode cX2_sum 0 = .ok (.new 258, 3) := dk_187 1 2 (dk_at dksX2_sum_0 0 rfl rfl)
theorem dX2_sum_3 : decode cX2_sum 3 = .ok (.dup, 1) := dk_89 (dk_at dksX2_sum_0 3 rfl rfl)
theorem dX2_sum_4 : decode cX2_sum 4 = .ok (.invokespecial 260, 3) := dk_183 1 4 (dk_at dksX2_sum_0 4 rfl rfl)
theorem dX2_sum_7 : decode cX2_sum 7 = .ok (.astore_n 1, 1) := dk_76 (dk_at dksX2_sum_0 7 rfl rfl)
theorem dX2_sum_8 : decode cX2_sum 8 = .ok (.aload_n 0, 1) := dk_42 (dk_at dksX2_sum_0 8 rfl rfl)
theorem dX2_sum_9 : decode cX2_sum 9 = .ok (.aload_n 1, 1) := dk_43 (dk_at dksX2_sum_0 9 rfl rfl)
theorem dX2_sum_10 : decode cX2_sum 10 = .ok (.invokevirtual 261, 3) := dk_182 1 5 (dk_at dksX2_sum_0 10 rfl rfl)
theorem dX2_sum_13 : decode cX2_sum 13 = .ok (.aload_n 0, 1) := dk_42 (dk_at dksX2_sum_0 13 rfl rfl)
theorem dX2_sum_14 : decode cX2_sum 14 = .ok (.invokevirtual 74, 3) := dk_182 0 74 (dk_at dksX2_sum_0 14 rfl rfl)
theorem dX2_sum_17 : decode cX2_sum 17 = .ok (.bipush 43, 2) := dk_16 43 (dk_at dksX2_sum_0 17 rfl rfl)
theorem dX2_sum_19 : decode cX2_sum 19 = .ok (.if_icmp .ne 21, 3) := dk_160 0 21 (dk_at dksX2_sum_0 19 rfl rfl)
theorem dX2_sum_22 : decode cX2_sum 22 = .ok (.aload_n 0, 1) := dk_42 (dk_at dksX2_sum_0 22 rfl rfl)
theorem dX2_sum_23 : decode cX2_sum 23 = .ok (.dup, 1) := dk_89 (dk_at dksX2_sum_0 23 rfl rfl)
theorem dX2_sum_24 : decode cX2_sum 24 = .ok (.getfield 68, 3) := dk_180 0 68 (dk_at dksX2_sum_1 0 rfl rfl)
theorem dX2_sum_27 : decode cX2_sum 27 = .ok (.iconst 1, 1) := dk_4 (dk_at dksX2_sum_1 3 rfl rfl)
theorem dX2_sum_28 : decode cX2_sum 28 = .ok (.iadd, 1) := dk_96 (dk_at dksX2_sum_1 4 rfl rfl)
theorem dX2_sum_29 : decode cX2_sum 29 = .ok (.putfield 68, 3) := dk_181 0 68 (dk_at dksX2_sum_1 5 rfl rfl)
theorem dX2_sum_32 : decode cX2_sum 32 = .ok (.aload_n 0, 1) := dk_42 (dk_at dksX2_sum_1 8 rfl rfl)
theorem dX2_sum_33 : decode cX2_sum 33 = .ok (.aload_n 1, 1) := dk_43 (dk_at dksX2_sum_1 9 rfl rfl)
theorem dX2_sum_34 : decode cX2_sum 34 = .ok (.invokevirtual 261, 3) := dk_182 1 5 (dk_at dksX2_sum_1 10 rfl rfl)
theorem dX2_sum_37 : decode cX2_sum 37 = .ok (.goto (-24), 3) := dk_167 255 232 (dk_at dksX2_sum_1 13 rfl rfl)
theorem dX2_sum_40 : decode cX2_sum 40 = .ok (.aload_n 1, 1) := dk_43 (dk_at dksX2_sum_1 16 rfl rfl)
theorem dX2_sum_41 : decode cX2_sum 41 = .ok (.areturn, 1) := dk_176 (dk_at dksX2_sum_1 17 rfl rfl)
abbrev cX2_part : ByteArray := prog_8_method_22_code
def yX2_part : MethodName := ⟨RX2, "part", "(LBorrowedLuck$Sum;)V"⟩
def dkwX2_part_3 : List UInt8 := [180, 0, 68, 182, 0, 89, 177]
abbrev dktX2_part_3 : List UInt8 := dkwX2_part_3 ++ []
def dkwX2_part_2 : List UInt8 := [167, 0, 14, 43, 180, 1, 15, 28, 92, 46, 4, 96, 79, 177, 132, 2, 1, 167, 255, 220, 42, 42]
abbrev dktX2_part_2 : List UInt8 := dkwX2_part_2 ++ dktX2_part_3
def dkwX2_part_1 : List UInt8 := [177, 3, 61, 28, 16, 7, 162, 0, 36, 42, 42, 180, 0, 31, 28, 50, 182, 0, 85, 154, 0, 6]
abbrev dktX2_part_1 : List UInt8 := dkwX2_part_1 ++ dktX2_part_2
def dkwX2_part_0 : List UInt8 := [42, 182, 1, 9, 153, 0, 21, 43, 89, 180, 1, 13, 42, 3, 17, 3, 231, 182, 0, 100, 96, 181, 1, 13]
abbrev dktX2_part_0 : List UInt8 := dkwX2_part_0 ++ dktX2_part_1
theorem dksX2_part_0 : cX2_part.data.toList.drop 0 = dktX2_part_0 := by decide +kernel
theorem dksX2_part_1 : cX2_part.data.toList.drop 24 = dktX2_part_1 := dk_seg dksX2_part_0 24 rfl rfl
theorem dksX2_part_2 : cX2_part.data.toList.drop 46 = dktX2_part_2 := dk_seg dksX2_part_1 22 rfl rfl
theorem dksX2_part_3 : cX2_part.data.toList.drop 68 = dktX2_part_3 := dk_seg dksX2_part_2 22 rfl rfl
theorem dX2_part_0 : decode cX2_part 0 = .ok (.aload_n 0, 1) := dk_42 (dk_at dksX2_part_0 0 rfl rfl)
theorem dX2_part_1 : decode cX2_part 1 = .ok (.invokevirtual 265, 3) := dk_182 1 9 (dk_at dksX2_part_0 1 rfl rfl)
theorem dX2_part_4 : decode cX2_part 4 = .ok (.ifCond .eq 21, 3) := dk_153 0 21 (dk_at dksX2_part_0 4 rfl rfl)
theorem dX2_part_7 : decode cX2_part 7 = .ok (.aload_n 1, 1) := dk_43 (dk_at dksX2_part_0 7 rfl rfl)
theorem dX2_part_8 : decode cX2_part 8 = .ok (.dup, 1) := dk_89 (dk_at dksX2_part_0 8 rfl rfl)
theorem dX2_part_9 : decode cX2_part 9 = .ok (.getfield 269, 3) := dk_180 1 13 (dk_at dksX2_part_0 9 rfl rfl)
theorem dX2_part_12 : decode cX2_part 12 = .ok (.aload_n 0, 1) := dk_42 (dk_at dksX2_part_0 12 rfl rfl)
theorem dX2_part_13 : decode cX2_part 13 = .ok (.iconst 0, 1) := dk_3 (dk_at dksX2_part_0 13 rfl rfl)
theorem dX2_part_14 : decode cX2_part 14 = .ok (.sipush 999, 3) := dk_17 3 231 (dk_at dksX2_part_0 14 rfl rfl)
theorem dX2_part_17 : decode cX2_part 17 = .ok (.invokevirtual 100, 3) := dk_182 0 100 (dk_at dksX2_part_0 17 rfl rfl)
theorem dX2_part_20 : decode cX2_part 20 = .ok (.iadd, 1) := dk_96 (dk_at dksX2_part_0 20 rfl rfl)
theorem dX2_part_21 : decode cX2_part 21 = .ok (.putfield 269, 3) := dk_181 1 13 (dk_at dksX2_part_0 21 rfl rfl)
theorem dX2_part_24 : decode cX2_part 24 = .ok (.return_, 1) := dk_177 (dk_at dksX2_part_1 0 rfl rfl)
theorem dX2_part_25 : decode cX2_part 25 = .ok (.iconst 0, 1) := dk_3 (dk_at dksX2_part_1 1 rfl rfl)
theorem dX2_part_26 : decode cX2_part 26 = .ok (.istore_n 2, 1) := dk_61 (dk_at dksX2_part_1 2 rfl rfl)
theorem dX2_part_27 : decode cX2_part 27 = .ok (.iload_n 2, 1) := dk_28 (dk_at dksX2_part_1 3 rfl rfl)
theorem dX2_part_28 : decode cX2_part 28 = .ok (.bipush 7, 2) := dk_16 7 (dk_at dksX2_part_1 4 rfl rfl)
theorem dX2_part_30 : decode cX2_part 30 = .ok (.if_icmp .ge 36, 3) := dk_162 0 36 (dk_at dksX2_part_1 6 rfl rfl)
theorem dX2_part_33 : decode cX2_part 33 = .ok (.aload_n 0, 1) := dk_42 (dk_at dksX2_part_1 9 rfl rfl)
theorem dX2_part_34 : decode cX2_part 34 = .ok (.aload_n 0, 1) := dk_42 (dk_at dksX2_part_1 10 rfl rfl)
theorem dX2_part_35 : decode cX2_part 35 = .ok (.getfield 31, 3) := dk_180 0 31 (dk_at dksX2_part_1 11 rfl rfl)
theorem dX2_part_38 : decode cX2_part 38 = .ok (.iload_n 2, 1) := dk_28 (dk_at dksX2_part_1 14 rfl rfl)
theorem dX2_part_39 : decode cX2_part 39 = .ok (.aaload, 1) := dk_50 (dk_at dksX2_part_1 15 rfl rfl)
theorem dX2_part_40 : decode cX2_part 40 = .ok (.invokevirtual 85, 3) := dk_182 0 85 (dk_at dksX2_part_1 16 rfl rfl)
theorem dX2_part_43 : decode cX2_part 43 = .ok (.ifCond .ne 6, 3) := dk_154 0 6 (dk_at dksX2_part_1 19 rfl rfl)
theorem dX2_part_46 : decode cX2_part 46 = .ok (.goto 14, 3) := dk_167 0 14 (dk_at dksX2_part_2 0 rfl rfl)
theorem dX2_part_49 : decode cX2_part 49 = .ok (.aload_n 1, 1) := dk_43 (dk_at dksX2_part_2 3 rfl rfl)
theorem dX2_part_50 : decode cX2_part 50 = .ok (.getfield 271, 3) := dk_180 1 15 (dk_at dksX2_part_2 4 rfl rfl)
theorem dX2_part_53 : decode cX2_part 53 = .ok (.iload_n 2, 1) := dk_28 (dk_at dksX2_part_2 7 rfl rfl)
theorem dX2_part_54 : decode cX2_part 54 = .ok (.dup2, 1) := dk_92 (dk_at dksX2_part_2 8 rfl rfl)
theorem dX2_part_55 : decode cX2_part 55 = .ok (.iaload, 1) := dk_46 (dk_at dksX2_part_2 9 rfl rfl)
theorem dX2_part_56 : decode cX2_part 56 = .ok (.iconst 1, 1) := dk_4 (dk_at dksX2_part_2 10 rfl rfl)
theorem dX2_part_57 : decode cX2_part 57 = .ok (.iadd, 1) := dk_96 (dk_at dksX2_part_2 11 rfl rfl)
theorem dX2_part_58 : decode cX2_part 58 = .ok (.iastore, 1) := dk_79 (dk_at dksX2_part_2 12 rfl rfl)
theorem dX2_part_59 : decode cX2_part 59 = .ok (.return_, 1) := dk_177 (dk_at dksX2_part_2 13 rfl rfl)
theorem dX2_part_60 : decode cX2_part 60 = .ok (.iinc 2 1, 3) := dk_132 2 1 (dk_at dksX2_part_2 14 rfl rfl)
theorem dX2_part_63 : decode cX2_part 63 = .ok (.goto (-36), 3) := dk_167 255 220 (dk_at dksX2_part_2 17 rfl rfl)
theorem dX2_part_66 : decode cX2_part 66 = .ok (.aload_n 0, 1) := dk_42 (dk_at dksX2_part_2 20 rfl rfl)
theorem dX2_part_67 : decode cX2_part 67 = .ok (.aload_n 0, 1) := dk_42 (dk_at dksX2_part_2 21 rfl rfl)
theorem dX2_part_68 : decode cX2_part 68 = .ok (.getfield 68, 3) := dk_180 0 68 (dk_at dksX2_part_3 0 rfl rfl)
theorem dX2_part_71 : decode cX2_part 71 = .ok (.invokevirtual 89, 3) := dk_182 0 89 (dk_at dksX2_part_3 3 rfl rfl)
theorem dX2_part_74 : decode cX2_part 74 = .ok (.return_, 1) := dk_177 (dk_at dksX2_part_3 6 rfl rfl)
abbrev cX2_isFigure : ByteArray := prog_8_method_5_code
def yX2_isFigure : MethodName := ⟨RX2, "isFigure", "()Z"⟩
def dkwX2_isFigure_0 : List UInt8 := [42, 182, 0, 74, 60, 27, 16, 48, 161, 0, 13, 27, 16, 57, 163, 0, 7, 4, 167, 0, 4, 3, 172]
abbrev dktX2_isFigure_0 : List UInt8 := dkwX2_isFigure_0 ++ []
theorem dksX2_isFigure_0 : cX2_isFigure.data.toList.drop 0 = dktX2_isFigure_0 := by decide +kernel
theorem dX2_isFigure_0 : decode cX2_isFigure 0 = .ok (.aload_n 0, 1) := dk_42 (dk_at dksX2_isFigure_0 0 rfl rfl)
theorem dX2_isFigure_1 : decode cX2_isFigure 1 = .ok (.invokevirtual 74, 3) := dk_182 0 74 (dk_at dksX2_isFigure_0 1 rfl rfl)
theorem dX2_isFigure_4 : decode cX2_isFigure 4 = .ok (.istore_n 1, 1) := dk_60 (dk_at dksX2_isFigure_0 4 rfl rfl)
theorem dX2_isFigure_5 : decode cX2_isFigure 5 = .ok (.iload_n 1, 1) := dk_27 (dk_at dksX2_isFigure_0 5 rfl rfl)
theorem dX2_isFigure_6 : decode cX2_isFigure 6 = .ok (.bipush 48, 2) := dk_16 48 (dk_at dksX2_isFigure_0 6 rfl rfl)
theorem dX2_isFigure_8 : decode cX2_isFigure 8 = .ok (.if_icmp .lt 13, 3) := dk_161 0 13 (dk_at dksX2_isFigure_0 8 rfl rfl)
theorem dX2_isFigure_11 : decode cX2_isFigure 11 = .ok (.iload_n 1, 1) := dk_27 (dk_at dksX2_isFigure_0 11 rfl rfl)
theorem dX2_isFigure_12 : decode cX2_isFigure 12 = .ok (.bipush 57, 2) := dk_16 57 (dk_at dksX2_isFigure_0 12 rfl rfl)
theorem dX2_isFigure_14 : decode cX2_isFigure 14 = .ok (.if_icmp .gt 7, 3) := dk_163 0 7 (dk_at dksX2_isFigure_0 14 rfl rfl)
theorem dX2_isFigure_17 : decode cX2_isFigure 17 = .ok (.iconst 1, 1) := dk_4 (dk_at dksX2_isFigure_0 17 rfl rfl)
theorem dX2_isFigure_18 : decode cX2_isFigure 18 = .ok (.goto 4, 3) := dk_167 0 4 (dk_at dksX2_isFigure_0 18 rfl rfl)
theorem dX2_isFigure_21 : decode cX2_isFigure 21 = .ok (.iconst 0, 1) := dk_3 (dk_at dksX2_isFigure_0 21 rfl rfl)
theorem dX2_isFigure_22 : decode cX2_isFigure 22 = .ok (.ireturn, 1) := dk_172 (dk_at dksX2_isFigure_0 22 rfl rfl)
theorem q123 : (Jvm.Cond.initialized "BorrowedLuck$Reader") ∈ lw_all := lw_g (lw_at lw_m1 2 rfl) rfl
theorem q163 : (Jvm.Cond.instantiable "BorrowedLuck$Reader" (10 : Nat)) ∈ lw_all := lw_g (lw_at lw_m1 42 rfl) rfl
theorem q165 : (Jvm.Cond.instanceMethod ({ cls := "BorrowedLuck$Reader", name := "<init>", desc := "()V" } : Jvm.MethodName)) ∈ lw_all := lw_g (lw_at lw_m1 44 rfl) rfl
theorem q166 : (Jvm.Cond.code ({ cls := "BorrowedLuck$Reader", name := "<init>", desc := "()V" } : Jvm.MethodName) prog_8_method_1_code (1 : Nat) (Option.none : Option Jvm.ClassFile.FieldType)) ∈ lw_all := lw_g (lw_at lw_m1 45 rfl) rfl
theorem q167 : (Jvm.Cond.methodLink "BorrowedLuck$Reader" (3 : Nat) ({ cls := "java/lang/Object", name := "<init>", desc := "()V" } : Jvm.MethodName)) ∈ lw_all := lw_g (lw_at lw_m1 46 rfl) rfl
theorem q168 : (Jvm.Cond.classLink "BorrowedLuck$Reader" (15 : Nat) "java/lang/String") ∈ lw_all := lw_g (lw_at lw_m1 47 rfl) rfl
theorem q170 : (Jvm.Cond.stringRef "BorrowedLuck$Reader" (17 : Nat) "woman") ∈ lw_tbl := lw_at lw_m1 49 rfl
theorem q171 : (Jvm.Cond.stringRef "BorrowedLuck$Reader" (19 : Nat) "thing") ∈ lw_tbl := lw_at lw_m1 50 rfl
theorem q172 : (Jvm.Cond.stringRef "BorrowedLuck$Reader" (21 : Nat) "sort") ∈ lw_tbl := lw_at lw_m1 51 rfl
theorem q173 : (Jvm.Cond.stringRef "BorrowedLuck$Reader" (23 : Nat) "wear") ∈ lw_tbl := lw_at lw_m1 52 rfl
theorem q174 : (Jvm.Cond.stringRef "BorrowedLuck$Reader" (25 : Nat) "wed") ∈ lw_tbl := lw_at lw_m1 53 rfl
theorem q175 : (Jvm.Cond.stringRef "BorrowedLuck$Reader" (27 : Nat) "has") ∈ lw_tbl := lw_at lw_m1 54 rfl
theorem q176 : (Jvm.Cond.stringRef "BorrowedLuck$Reader" (29 : Nat) "holds") ∈ lw_tbl := lw_at lw_m1 55 rfl
theorem q177 : (Jvm.Cond.stringRef "BorrowedLuck$Reader" (35 : Nat) "widow") ∈ lw_tbl := lw_at lw_m1 56 rfl
theorem q178 : (Jvm.Cond.stringRef "BorrowedLuck$Reader" (37 : Nat) "own") ∈ lw_tbl := lw_at lw_m1 57 rfl
theorem q179 : (Jvm.Cond.stringRef "BorrowedLuck$Reader" (39 : Nat) "blue") ∈ lw_tbl := lw_at lw_m1 58 rfl
theorem q180 : (Jvm.Cond.classLink "BorrowedLuck$Reader" (44 : Nat) "BorrowedLuck$Line") ∈ lw_all := lw_g (lw_at lw_m1 59 rfl) rfl
theorem q182 : (Jvm.Cond.classLink "BorrowedLuck$Reader" (50 : Nat) "BorrowedLuck$State") ∈ lw_all := lw_g (lw_at lw_m1 61 rfl) rfl
theorem q184 : (Jvm.Cond.methodLink "BorrowedLuck$Reader" (52 : Nat) ({ cls := "BorrowedLuck$State", name := "<init>", desc := "()V" } : Jvm.MethodName)) ∈ lw_all := lw_g (lw_at lw_m1 63 rfl) rfl
theorem q200 : (Jvm.Cond.fieldLinkNest "BorrowedLuck$Reader" (146 : Nat) "BorrowedLuck$Woman" "luck" "[I" "BorrowedLuck") ∈ lw_tbl := lw_at lw_m1 79 rfl
theorem q203 : (Jvm.Cond.fieldLinkNest "BorrowedLuck$Reader" (162 : Nat) "BorrowedLuck$Woman" "purse" "I" "BorrowedLuck") ∈ lw_tbl := lw_at lw_m1 82 rfl
theorem q207 : (Jvm.Cond.fieldLinkNest "BorrowedLuck$Reader" (164 : Nat) "BorrowedLuck$Woman" "wed" "I" "BorrowedLuck") ∈ lw_tbl := lw_at lw_m1 86 rfl
theorem q211 : (Jvm.Cond.fieldLinkNest "BorrowedLuck$Reader" (166 : Nat) "BorrowedLuck$Woman" "widow" "Z" "BorrowedLuck") ∈ lw_tbl := lw_at lw_m1 90 rfl
theorem q231 : (Jvm.Cond.fieldLinkNest "BorrowedLuck$Reader" (176 : Nat) "BorrowedLuck$Thing" "luck" "[I" "BorrowedLuck") ∈ lw_tbl := lw_at lw_m1 110 rfl
theorem q235 : (Jvm.Cond.fieldLinkNest "BorrowedLuck$Reader" (181 : Nat) "BorrowedLuck$Thing" "owner" "I" "BorrowedLuck") ∈ lw_tbl := lw_at lw_m1 114 rfl
theorem q239 : (Jvm.Cond.fieldLinkNest "BorrowedLuck$Reader" (190 : Nat) "BorrowedLuck$Thing" "holder" "I" "BorrowedLuck") ∈ lw_tbl := lw_at lw_m1 118 rfl
theorem q243 : (Jvm.Cond.fieldLinkNest "BorrowedLuck$Reader" (186 : Nat) "BorrowedLuck$Thing" "wear" "I" "BorrowedLuck") ∈ lw_tbl := lw_at lw_m1 122 rfl
theorem q247 : (Jvm.Cond.fieldLinkNest "BorrowedLuck$Reader" (195 : Nat) "BorrowedLuck$Thing" "stuck" "Z" "BorrowedLuck") ∈ lw_tbl := lw_at lw_m1 126 rfl
theorem q251 : (Jvm.Cond.fieldLinkNest "BorrowedLuck$Reader" (193 : Nat) "BorrowedLuck$Thing" "blue" "Z" "BorrowedLuck") ∈ lw_tbl := lw_at lw_m1 130 rfl
theorem q268 : (Jvm.Cond.fieldLinkNest "BorrowedLuck$Reader" (142 : Nat) "BorrowedLuck$State" "women" "[LBorrowedLuck$Woman;" "BorrowedLuck") ∈ lw_tbl := lw_at lw_m1 147 rfl
theorem q271 : (Jvm.Cond.fieldLinkNest "BorrowedLuck$Reader" (172 : Nat) "BorrowedLuck$State" "things" "[LBorrowedLuck$Thing;" "BorrowedLuck") ∈ lw_tbl := lw_at lw_m1 150 rfl
theorem q279 : (Jvm.Cond.fieldLinkNest "BorrowedLuck$Reader" (139 : Nat) "BorrowedLuck$State" "many" "I" "BorrowedLuck") ∈ lw_tbl := lw_at lw_m1 158 rfl
theorem q282 : (Jvm.Cond.fieldLinkNest "BorrowedLuck$Reader" (169 : Nat) "BorrowedLuck$State" "thingMany" "I" "BorrowedLuck") ∈ lw_tbl := lw_at lw_m1 161 rfl
theorem q288 : (Jvm.Cond.fieldLinkNest "BorrowedLuck$Reader" (137 : Nat) "BorrowedLuck$State" "day" "I" "BorrowedLuck") ∈ lw_tbl := lw_at lw_m1 167 rfl
theorem q291 : (Jvm.Cond.fieldLinkNest "BorrowedLuck$Reader" (129 : Nat) "BorrowedLuck$State" "price" "I" "BorrowedLuck") ∈ lw_tbl := lw_at lw_m1 170 rfl
theorem q294 : (Jvm.Cond.fieldLinkNest "BorrowedLuck$Reader" (133 : Nat) "BorrowedLuck$State" "love" "I" "BorrowedLuck") ∈ lw_tbl := lw_at lw_m1 173 rfl
theorem q331 : (Jvm.Cond.classLink "BorrowedLuck$Reader" (57 : Nat) "BorrowedLuck$Wrong") ∈ lw_all := lw_g (lw_at lw_m1 210 rfl) rfl
theorem q376 : (Jvm.Cond.methodLink "BorrowedLuck$Reader" (59 : Nat) ({ cls := "BorrowedLuck$Wrong", name := "<init>", desc := "()V" } : Jvm.MethodName)) ∈ lw_all := lw_g (lw_at lw_m2 15 rfl) rfl
theorem q388 : (Jvm.Cond.fieldLinkNest "BorrowedLuck$Reader" (64 : Nat) "BorrowedLuck$Wrong" "place" "I" "BorrowedLuck") ∈ lw_tbl := lw_at lw_m2 27 rfl
theorem q405 : (Jvm.Cond.fieldLink "BorrowedLuck$Reader" (9 : Nat) "BorrowedLuck$Reader" "tape" "[B") ∈ lw_all := lw_g (lw_at lw_m2 44 rfl) rfl
theorem q407 : (Jvm.Cond.fieldLink "BorrowedLuck$Reader" (31 : Nat) "BorrowedLuck$Reader" "words" "[Ljava/lang/String;") ∈ lw_all := lw_g (lw_at lw_m2 46 rfl) rfl
theorem q408 : (Jvm.Cond.fieldLink "BorrowedLuck$Reader" (41 : Nat) "BorrowedLuck$Reader" "tags" "[Ljava/lang/String;") ∈ lw_all := lw_g (lw_at lw_m2 47 rfl) rfl
theorem q409 : (Jvm.Cond.fieldLink "BorrowedLuck$Reader" (46 : Nat) "BorrowedLuck$Reader" "row" "[LBorrowedLuck$Line;") ∈ lw_all := lw_g (lw_at lw_m2 48 rfl) rfl
theorem q411 : (Jvm.Cond.fieldLink "BorrowedLuck$Reader" (53 : Nat) "BorrowedLuck$Reader" "draft" "LBorrowedLuck$State;") ∈ lw_all := lw_g (lw_at lw_m2 50 rfl) rfl
theorem q412 : (Jvm.Cond.fieldLink "BorrowedLuck$Reader" (60 : Nat) "BorrowedLuck$Reader" "wrong" "LBorrowedLuck$Wrong;") ∈ lw_all := lw_g (lw_at lw_m2 51 rfl) rfl
theorem q414 : (Jvm.Cond.fieldLink "BorrowedLuck$Reader" (71 : Nat) "BorrowedLuck$Reader" "end" "I") ∈ lw_all := lw_g (lw_at lw_m2 53 rfl) rfl
theorem q415 : (Jvm.Cond.fieldLink "BorrowedLuck$Reader" (68 : Nat) "BorrowedLuck$Reader" "at" "I") ∈ lw_all := lw_g (lw_at lw_m2 54 rfl) rfl
theorem q416 : (Jvm.Cond.fieldLink "BorrowedLuck$Reader" (104 : Nat) "BorrowedLuck$Reader" "deep" "I") ∈ lw_all := lw_g (lw_at lw_m2 55 rfl) rfl
theorem q417 : (Jvm.Cond.laysFinal "BorrowedLuck$Reader" "BorrowedLuck$Reader" "tape" "[B") ∈ lw_all := lw_g (lw_at lw_m2 56 rfl) rfl
theorem q418 : (Jvm.Cond.soleField "BorrowedLuck$Reader" "tape") ∈ lw_all := lw_g (lw_at lw_m2 57 rfl) rfl
theorem q419 : (Jvm.Cond.laysFinal "BorrowedLuck$Reader" "BorrowedLuck$Reader" "words" "[Ljava/lang/String;") ∈ lw_all := lw_g (lw_at lw_m2 58 rfl) rfl
theorem q420 : (Jvm.Cond.soleField "BorrowedLuck$Reader" "words") ∈ lw_all := lw_g (lw_at lw_m2 59 rfl) rfl
theorem q421 : (Jvm.Cond.laysFinal "BorrowedLuck$Reader" "BorrowedLuck$Reader" "tags" "[Ljava/lang/String;") ∈ lw_all := lw_g (lw_at lw_m2 60 rfl) rfl
theorem q422 : (Jvm.Cond.soleField "BorrowedLuck$Reader" "tags") ∈ lw_all := lw_g (lw_at lw_m2 61 rfl) rfl
theorem q423 : (Jvm.Cond.laysFinal "BorrowedLuck$Reader" "BorrowedLuck$Reader" "row" "[LBorrowedLuck$Line;") ∈ lw_all := lw_g (lw_at lw_m2 62 rfl) rfl
theorem q424 : (Jvm.Cond.soleField "BorrowedLuck$Reader" "row") ∈ lw_all := lw_g (lw_at lw_m2 63 rfl) rfl
theorem q425 : (Jvm.Cond.laysFinal "BorrowedLuck$Reader" "BorrowedLuck$Reader" "draft" "LBorrowedLuck$State;") ∈ lw_all := lw_g (lw_at lw_m2 64 rfl) rfl
theorem q426 : (Jvm.Cond.soleField "BorrowedLuck$Reader" "draft") ∈ lw_all := lw_g (lw_at lw_m2 65 rfl) rfl
theorem q427 : (Jvm.Cond.laysFinal "BorrowedLuck$Reader" "BorrowedLuck$Reader" "wrong" "LBorrowedLuck$Wrong;") ∈ lw_all := lw_g (lw_at lw_m2 66 rfl) rfl
theorem q428 : (Jvm.Cond.soleField "BorrowedLuck$Reader" "wrong") ∈ lw_all := lw_g (lw_at lw_m2 67 rfl) rfl
theorem q429 : (Jvm.Cond.lays "BorrowedLuck$Reader" "BorrowedLuck$Reader" "size" "I") ∈ lw_all := lw_g (lw_at lw_m2 68 rfl) rfl
theorem q430 : (Jvm.Cond.soleField "BorrowedLuck$Reader" "size") ∈ lw_all := lw_g (lw_at lw_m2 69 rfl) rfl
theorem q431 : (Jvm.Cond.lays "BorrowedLuck$Reader" "BorrowedLuck$Reader" "end" "I") ∈ lw_all := lw_g (lw_at lw_m2 70 rfl) rfl
theorem q432 : (Jvm.Cond.soleField "BorrowedLuck$Reader" "end") ∈ lw_all := lw_g (lw_at lw_m2 71 rfl) rfl
theorem q433 : (Jvm.Cond.lays "BorrowedLuck$Reader" "BorrowedLuck$Reader" "at" "I") ∈ lw_all := lw_g (lw_at lw_m2 72 rfl) rfl
theorem q434 : (Jvm.Cond.soleField "BorrowedLuck$Reader" "at") ∈ lw_all := lw_g (lw_at lw_m2 73 rfl) rfl
theorem q435 : (Jvm.Cond.lays "BorrowedLuck$Reader" "BorrowedLuck$Reader" "deep" "I") ∈ lw_all := lw_g (lw_at lw_m2 74 rfl) rfl
theorem q436 : (Jvm.Cond.soleField "BorrowedLuck$Reader" "deep") ∈ lw_all := lw_g (lw_at lw_m2 75 rfl) rfl
theorem q437 : (Jvm.Cond.superclass "BorrowedLuck$Reader" "java/lang/Object") ∈ lw_all := lw_g (lw_at lw_m2 76 rfl) rfl
theorem q647 : (Jvm.Cond.instanceMethod ({ cls := "BorrowedLuck$Reader", name := "coast", desc := "(ILBorrowedLuck$State;)LBorrowedLuck$State;" } : Jvm.MethodName)) ∈ lw_all := lw_g (lw_at lw_m3 46 rfl) rfl
theorem q648 : (Jvm.Cond.selects "BorrowedLuck$Reader" ({ cls := "BorrowedLuck$Reader", name := "coast", desc := "(ILBorrowedLuck$State;)LBorrowedLuck$State;" } : Jvm.MethodName) ({ cls := "BorrowedLuck$Reader", name := "coast", desc := "(ILBorrowedLuck$State;)LBorrowedLuck$State;" } : Jvm.MethodName)) ∈ lw_all := lw_g (lw_at lw_m3 47 rfl) rfl
theorem q649 : (Jvm.Cond.code ({ cls := "BorrowedLuck$Reader", name := "coast", desc := "(ILBorrowedLuck$State;)LBorrowedLuck$State;" } : Jvm.MethodName) prog_8_method_12_code (4 : Nat) (Option.some (Jvm.ClassFile.FieldType.object "BorrowedLuck$State"))) ∈ lw_all := lw_g (lw_at lw_m3 48 rfl) rfl
theorem q650 : (Jvm.Cond.methodLink "BorrowedLuck$Reader" (107 : Nat) ({ cls := "BorrowedLuck$Reader", name := "begins", desc := "(I)V" } : Jvm.MethodName)) ∈ lw_all := lw_g (lw_at lw_m3 49 rfl) rfl
theorem q651 : (Jvm.Cond.privateMethod ({ cls := "BorrowedLuck$Reader", name := "begins", desc := "(I)V" } : Jvm.MethodName)) ∈ lw_tbl := lw_at lw_m3 50 rfl
theorem q652 : (Jvm.Cond.instanceMethod ({ cls := "BorrowedLuck$Reader", name := "begins", desc := "(I)V" } : Jvm.MethodName)) ∈ lw_all := lw_g (lw_at lw_m3 51 rfl) rfl
theorem q653 : (Jvm.Cond.code ({ cls := "BorrowedLuck$Reader", name := "begins", desc := "(I)V" } : Jvm.MethodName) prog_8_method_10_code (2 : Nat) (Option.none : Option Jvm.ClassFile.FieldType)) ∈ lw_all := lw_g (lw_at lw_m3 52 rfl) rfl
theorem q654 : (Jvm.Cond.methodLink "BorrowedLuck$Reader" (110 : Nat) ({ cls := "BorrowedLuck$State", name := "be", desc := "(LBorrowedLuck$State;)V" } : Jvm.MethodName)) ∈ lw_all := lw_g (lw_at lw_m3 53 rfl) rfl
theorem q655 : (Jvm.Cond.methodLink "BorrowedLuck$Reader" (114 : Nat) ({ cls := "BorrowedLuck$Reader", name := "more", desc := "(II)Z" } : Jvm.MethodName)) ∈ lw_all := lw_g (lw_at lw_m3 54 rfl) rfl
theorem q656 : (Jvm.Cond.privateMethod ({ cls := "BorrowedLuck$Reader", name := "more", desc := "(II)Z" } : Jvm.MethodName)) ∈ lw_tbl := lw_at lw_m3 55 rfl
theorem q657 : (Jvm.Cond.instanceMethod ({ cls := "BorrowedLuck$Reader", name := "more", desc := "(II)Z" } : Jvm.MethodName)) ∈ lw_all := lw_g (lw_at lw_m3 56 rfl) rfl
theorem q658 : (Jvm.Cond.code ({ cls := "BorrowedLuck$Reader", name := "more", desc := "(II)Z" } : Jvm.MethodName) prog_8_method_11_code (5 : Nat) (Option.some Jvm.ClassFile.FieldType.boolean)) ∈ lw_all := lw_g (lw_at lw_m3 57 rfl) rfl
theorem q659 : (Jvm.Cond.methodLink "BorrowedLuck$Reader" (74 : Nat) ({ cls := "BorrowedLuck$Reader", name := "sign", desc := "()I" } : Jvm.MethodName)) ∈ lw_all := lw_g (lw_at lw_m3 58 rfl) rfl
theorem q660 : (Jvm.Cond.privateMethod ({ cls := "BorrowedLuck$Reader", name := "sign", desc := "()I" } : Jvm.MethodName)) ∈ lw_tbl := lw_at lw_m3 59 rfl
theorem q661 : (Jvm.Cond.instanceMethod ({ cls := "BorrowedLuck$Reader", name := "sign", desc := "()I" } : Jvm.MethodName)) ∈ lw_all := lw_g (lw_at lw_m3 60 rfl) rfl
theorem q662 : (Jvm.Cond.code ({ cls := "BorrowedLuck$Reader", name := "sign", desc := "()I" } : Jvm.MethodName) prog_8_method_3_code (1 : Nat) (Option.some Jvm.ClassFile.FieldType.int)) ∈ lw_all := lw_g (lw_at lw_m3 61 rfl) rfl
theorem q663 : (Jvm.Cond.methodLink "BorrowedLuck$Reader" (89 : Nat) ({ cls := "BorrowedLuck$Reader", name := "fail", desc := "(I)V" } : Jvm.MethodName)) ∈ lw_all := lw_g (lw_at lw_m3 62 rfl) rfl
theorem q664 : (Jvm.Cond.privateMethod ({ cls := "BorrowedLuck$Reader", name := "fail", desc := "(I)V" } : Jvm.MethodName)) ∈ lw_tbl := lw_at lw_m3 63 rfl
theorem q665 : (Jvm.Cond.instanceMethod ({ cls := "BorrowedLuck$Reader", name := "fail", desc := "(I)V" } : Jvm.MethodName)) ∈ lw_all := lw_g (lw_at lw_m3 64 rfl) rfl
theorem q666 : (Jvm.Cond.code ({ cls := "BorrowedLuck$Reader", name := "fail", desc := "(I)V" } : Jvm.MethodName) prog_8_method_2_code (2 : Nat) (Option.none : Option Jvm.ClassFile.FieldType)) ∈ lw_all := lw_g (lw_at lw_m3 65 rfl) rfl
theorem q667 : (Jvm.Cond.methodLink "BorrowedLuck$Reader" (118 : Nat) ({ cls := "BorrowedLuck$Reader", name := "line", desc := "()V" } : Jvm.MethodName)) ∈ lw_all := lw_g (lw_at lw_m3 66 rfl) rfl
theorem q668 : (Jvm.Cond.privateMethod ({ cls := "BorrowedLuck$Reader", name := "line", desc := "()V" } : Jvm.MethodName)) ∈ lw_tbl := lw_at lw_m3 67 rfl
theorem q669 : (Jvm.Cond.instanceMethod ({ cls := "BorrowedLuck$Reader", name := "line", desc := "()V" } : Jvm.MethodName)) ∈ lw_all := lw_g (lw_at lw_m3 68 rfl) rfl
theorem q670 : (Jvm.Cond.code ({ cls := "BorrowedLuck$Reader", name := "line", desc := "()V" } : Jvm.MethodName) prog_8_method_13_code (2 : Nat) (Option.none : Option Jvm.ClassFile.FieldType)) ∈ lw_all := lw_g (lw_at lw_m3 69 rfl) rfl
theorem q671 : (Jvm.Cond.methodLink "BorrowedLuck$Reader" (85 : Nat) ({ cls := "BorrowedLuck$Reader", name := "takes", desc := "(Ljava/lang/String;)Z" } : Jvm.MethodName)) ∈ lw_all := lw_g (lw_at lw_m3 70 rfl) rfl
theorem q672 : (Jvm.Cond.privateMethod ({ cls := "BorrowedLuck$Reader", name := "takes", desc := "(Ljava/lang/String;)Z" } : Jvm.MethodName)) ∈ lw_tbl := lw_at lw_m3 71 rfl
theorem q673 : (Jvm.Cond.instanceMethod ({ cls := "BorrowedLuck$Reader", name := "takes", desc := "(Ljava/lang/String;)Z" } : Jvm.MethodName)) ∈ lw_all := lw_g (lw_at lw_m3 72 rfl) rfl
theorem q674 : (Jvm.Cond.code ({ cls := "BorrowedLuck$Reader", name := "takes", desc := "(Ljava/lang/String;)Z" } : Jvm.MethodName) prog_8_method_6_code (6 : Nat) (Option.some Jvm.ClassFile.FieldType.boolean)) ∈ lw_all := lw_g (lw_at lw_m3 73 rfl) rfl
theorem q675 : (Jvm.Cond.methodLink "BorrowedLuck$Reader" (78 : Nat) ({ cls := "java/lang/String", name := "length", desc := "()I" } : Jvm.MethodName)) ∈ lw_all := lw_g (lw_at lw_m3 74 rfl) rfl
theorem q685 : (Jvm.Cond.methodLink "BorrowedLuck$Reader" (81 : Nat) ({ cls := "java/lang/String", name := "charAt", desc := "(I)C" } : Jvm.MethodName)) ∈ lw_all := lw_g (lw_at lw_m3 84 rfl) rfl
theorem q723 : (Jvm.Cond.methodLink "BorrowedLuck$Reader" (121 : Nat) ({ cls := "BorrowedLuck$Reader", name := "addWoman", desc := "(I)V" } : Jvm.MethodName)) ∈ lw_all := lw_g (lw_at lw_m3 122 rfl) rfl
theorem q724 : (Jvm.Cond.privateMethod ({ cls := "BorrowedLuck$Reader", name := "addWoman", desc := "(I)V" } : Jvm.MethodName)) ∈ lw_tbl := lw_at lw_m3 123 rfl
theorem q725 : (Jvm.Cond.instanceMethod ({ cls := "BorrowedLuck$Reader", name := "addWoman", desc := "(I)V" } : Jvm.MethodName)) ∈ lw_all := lw_g (lw_at lw_m3 124 rfl) rfl
theorem q726 : (Jvm.Cond.code ({ cls := "BorrowedLuck$Reader", name := "addWoman", desc := "(I)V" } : Jvm.MethodName) prog_8_method_15_code (3 : Nat) (Option.none : Option Jvm.ClassFile.FieldType)) ∈ lw_all := lw_g (lw_at lw_m3 125 rfl) rfl
theorem q727 : (Jvm.Cond.methodLink "BorrowedLuck$Reader" (152 : Nat) ({ cls := "BorrowedLuck$Reader", name := "quads", desc := "([I)V" } : Jvm.MethodName)) ∈ lw_all := lw_g (lw_at lw_m3 126 rfl) rfl
theorem q728 : (Jvm.Cond.privateMethod ({ cls := "BorrowedLuck$Reader", name := "quads", desc := "([I)V" } : Jvm.MethodName)) ∈ lw_tbl := lw_at lw_m3 127 rfl
theorem q729 : (Jvm.Cond.instanceMethod ({ cls := "BorrowedLuck$Reader", name := "quads", desc := "([I)V" } : Jvm.MethodName)) ∈ lw_all := lw_g (lw_at lw_m3 128 rfl) rfl
theorem q730 : (Jvm.Cond.code ({ cls := "BorrowedLuck$Reader", name := "quads", desc := "([I)V" } : Jvm.MethodName) prog_8_method_14_code (3 : Nat) (Option.none : Option Jvm.ClassFile.FieldType)) ∈ lw_all := lw_g (lw_at lw_m3 129 rfl) rfl
theorem q731 : (Jvm.Cond.methodLink "BorrowedLuck$Reader" (100 : Nat) ({ cls := "BorrowedLuck$Reader", name := "number", desc := "(II)I" } : Jvm.MethodName)) ∈ lw_all := lw_g (lw_at lw_m3 130 rfl) rfl
theorem q732 : (Jvm.Cond.privateMethod ({ cls := "BorrowedLuck$Reader", name := "number", desc := "(II)I" } : Jvm.MethodName)) ∈ lw_tbl := lw_at lw_m3 131 rfl
theorem q733 : (Jvm.Cond.instanceMethod ({ cls := "BorrowedLuck$Reader", name := "number", desc := "(II)I" } : Jvm.MethodName)) ∈ lw_all := lw_g (lw_at lw_m3 132 rfl) rfl
theorem q734 : (Jvm.Cond.code ({ cls := "BorrowedLuck$Reader", name := "number", desc := "(II)I" } : Jvm.MethodName) prog_8_method_8_code (5 : Nat) (Option.some Jvm.ClassFile.FieldType.int)) ∈ lw_all := lw_g (lw_at lw_m3 133 rfl) rfl
theorem q735 : (Jvm.Cond.methodLink "BorrowedLuck$Reader" (93 : Nat) ({ cls := "BorrowedLuck$Reader", name := "here", desc := "()I" } : Jvm.MethodName)) ∈ lw_all := lw_g (lw_at lw_m3 134 rfl) rfl
theorem q736 : (Jvm.Cond.privateMethod ({ cls := "BorrowedLuck$Reader", name := "here", desc := "()I" } : Jvm.MethodName)) ∈ lw_tbl := lw_at lw_m3 135 rfl
theorem q737 : (Jvm.Cond.instanceMethod ({ cls := "BorrowedLuck$Reader", name := "here", desc := "()I" } : Jvm.MethodName)) ∈ lw_all := lw_g (lw_at lw_m3 136 rfl) rfl
theorem q738 : (Jvm.Cond.code ({ cls := "BorrowedLuck$Reader", name := "here", desc := "()I" } : Jvm.MethodName) prog_8_method_4_code (2 : Nat) (Option.some Jvm.ClassFile.FieldType.int)) ∈ lw_all := lw_g (lw_at lw_m3 137 rfl) rfl
theorem q739 : (Jvm.Cond.stringRef "BorrowedLuck$Reader" (156 : Nat) "purse") ∈ lw_tbl := lw_at lw_m3 138 rfl
theorem q740 : (Jvm.Cond.methodLink "BorrowedLuck$Reader" (158 : Nat) ({ cls := "BorrowedLuck$Reader", name := "after", desc := "(Ljava/lang/String;II)I" } : Jvm.MethodName)) ∈ lw_all := lw_g (lw_at lw_m3 139 rfl) rfl
theorem q741 : (Jvm.Cond.privateMethod ({ cls := "BorrowedLuck$Reader", name := "after", desc := "(Ljava/lang/String;II)I" } : Jvm.MethodName)) ∈ lw_tbl := lw_at lw_m3 140 rfl
theorem q742 : (Jvm.Cond.instanceMethod ({ cls := "BorrowedLuck$Reader", name := "after", desc := "(Ljava/lang/String;II)I" } : Jvm.MethodName)) ∈ lw_all := lw_g (lw_at lw_m3 141 rfl) rfl
theorem q743 : (Jvm.Cond.code ({ cls := "BorrowedLuck$Reader", name := "after", desc := "(Ljava/lang/String;II)I" } : Jvm.MethodName) prog_8_method_9_code (4 : Nat) (Option.some Jvm.ClassFile.FieldType.int)) ∈ lw_all := lw_g (lw_at lw_m3 142 rfl) rfl
theorem q744 : (Jvm.Cond.methodLink "BorrowedLuck$Reader" (96 : Nat) ({ cls := "BorrowedLuck$Reader", name := "expect", desc := "(Ljava/lang/String;)V" } : Jvm.MethodName)) ∈ lw_all := lw_g (lw_at lw_m3 143 rfl) rfl
theorem q745 : (Jvm.Cond.privateMethod ({ cls := "BorrowedLuck$Reader", name := "expect", desc := "(Ljava/lang/String;)V" } : Jvm.MethodName)) ∈ lw_tbl := lw_at lw_m3 144 rfl
theorem q746 : (Jvm.Cond.instanceMethod ({ cls := "BorrowedLuck$Reader", name := "expect", desc := "(Ljava/lang/String;)V" } : Jvm.MethodName)) ∈ lw_all := lw_g (lw_at lw_m3 145 rfl) rfl
theorem q747 : (Jvm.Cond.code ({ cls := "BorrowedLuck$Reader", name := "expect", desc := "(Ljava/lang/String;)V" } : Jvm.MethodName) prog_8_method_7_code (2 : Nat) (Option.none : Option Jvm.ClassFile.FieldType)) ∈ lw_all := lw_g (lw_at lw_m3 146 rfl) rfl
theorem q748 : (Jvm.Cond.methodLink "BorrowedLuck$Reader" (124 : Nat) ({ cls := "BorrowedLuck$Reader", name := "addThing", desc := "(I)V" } : Jvm.MethodName)) ∈ lw_all := lw_g (lw_at lw_m3 147 rfl) rfl
theorem q749 : (Jvm.Cond.privateMethod ({ cls := "BorrowedLuck$Reader", name := "addThing", desc := "(I)V" } : Jvm.MethodName)) ∈ lw_tbl := lw_at lw_m3 148 rfl
theorem q750 : (Jvm.Cond.instanceMethod ({ cls := "BorrowedLuck$Reader", name := "addThing", desc := "(I)V" } : Jvm.MethodName)) ∈ lw_all := lw_g (lw_at lw_m3 149 rfl) rfl
theorem q751 : (Jvm.Cond.code ({ cls := "BorrowedLuck$Reader", name := "addThing", desc := "(I)V" } : Jvm.MethodName) prog_8_method_16_code (3 : Nat) (Option.none : Option Jvm.ClassFile.FieldType)) ∈ lw_all := lw_g (lw_at lw_m3 150 rfl) rfl
theorem q752 : (Jvm.Cond.stringRef "BorrowedLuck$Reader" (179 : Nat) "of") ∈ lw_tbl := lw_at lw_m3 151 rfl
theorem q753 : (Jvm.Cond.stringRef "BorrowedLuck$Reader" (184 : Nat) "worn") ∈ lw_tbl := lw_at lw_m3 152 rfl
theorem q754 : (Jvm.Cond.stringRef "BorrowedLuck$Reader" (188 : Nat) "with") ∈ lw_tbl := lw_at lw_m3 153 rfl
theorem q755 : (Jvm.Cond.stringRef "BorrowedLuck$Reader" (127 : Nat) "price") ∈ lw_tbl := lw_at lw_m3 154 rfl
theorem q756 : (Jvm.Cond.stringRef "BorrowedLuck$Reader" (131 : Nat) "love") ∈ lw_tbl := lw_at lw_m3 155 rfl
theorem q757 : (Jvm.Cond.stringRef "BorrowedLuck$Reader" (135 : Nat) "day") ∈ lw_tbl := lw_at lw_m3 156 rfl
theorem q809 : (Jvm.Cond.instanceMethod ({ cls := "BorrowedLuck$Reader", name := "law", desc := "(I)I" } : Jvm.MethodName)) ∈ lw_all := lw_g (lw_at lw_m3 208 rfl) rfl
theorem q810 : (Jvm.Cond.selects "BorrowedLuck$Reader" ({ cls := "BorrowedLuck$Reader", name := "law", desc := "(I)I" } : Jvm.MethodName) ({ cls := "BorrowedLuck$Reader", name := "law", desc := "(I)I" } : Jvm.MethodName)) ∈ lw_all := lw_g (lw_at lw_m3 209 rfl) rfl
theorem q811 : (Jvm.Cond.code ({ cls := "BorrowedLuck$Reader", name := "law", desc := "(I)I" } : Jvm.MethodName) prog_8_method_17_code (6 : Nat) (Option.some Jvm.ClassFile.FieldType.int)) ∈ lw_all := lw_g (lw_at lw_m3 210 rfl) rfl
theorem q812 : (Jvm.Cond.stringRef "BorrowedLuck$Reader" (198 : Nat) "flow") ∈ lw_tbl := lw_at lw_m3 211 rfl
theorem q813 : (Jvm.Cond.stringRef "BorrowedLuck$Reader" (200 : Nat) "stick") ∈ lw_tbl := lw_at lw_m3 212 rfl
theorem q814 : (Jvm.Cond.stringRef "BorrowedLuck$Reader" (202 : Nat) "if") ∈ lw_tbl := lw_at lw_m3 213 rfl
theorem q815 : (Jvm.Cond.methodLink "BorrowedLuck$Reader" (204 : Nat) ({ cls := "BorrowedLuck$Reader", name := "row", desc := "(Z)LBorrowedLuck$Cond;" } : Jvm.MethodName)) ∈ lw_all := lw_g (lw_at lw_m3 214 rfl) rfl
theorem q816 : (Jvm.Cond.privateMethod ({ cls := "BorrowedLuck$Reader", name := "row", desc := "(Z)LBorrowedLuck$Cond;" } : Jvm.MethodName)) ∈ lw_tbl := lw_at lw_m3 215 rfl
theorem q817 : (Jvm.Cond.instanceMethod ({ cls := "BorrowedLuck$Reader", name := "row", desc := "(Z)LBorrowedLuck$Cond;" } : Jvm.MethodName)) ∈ lw_all := lw_g (lw_at lw_m3 216 rfl) rfl
theorem q818 : (Jvm.Cond.code ({ cls := "BorrowedLuck$Reader", name := "row", desc := "(Z)LBorrowedLuck$Cond;" } : Jvm.MethodName) prog_8_method_18_code (4 : Nat) (Option.some (Jvm.ClassFile.FieldType.object "BorrowedLuck$Cond"))) ∈ lw_all := lw_g (lw_at lw_m3 217 rfl) rfl
theorem q819 : (Jvm.Cond.classLink "BorrowedLuck$Reader" (220 : Nat) "BorrowedLuck$Chain") ∈ lw_all := lw_g (lw_at lw_m3 218 rfl) rfl
theorem q821 : (Jvm.Cond.methodLink "BorrowedLuck$Reader" (222 : Nat) ({ cls := "BorrowedLuck$Reader", name := "atom", desc := "()LBorrowedLuck$Cond;" } : Jvm.MethodName)) ∈ lw_all := lw_g (lw_at lw_m3 220 rfl) rfl
theorem q822 : (Jvm.Cond.privateMethod ({ cls := "BorrowedLuck$Reader", name := "atom", desc := "()LBorrowedLuck$Cond;" } : Jvm.MethodName)) ∈ lw_tbl := lw_at lw_m3 221 rfl
theorem q823 : (Jvm.Cond.instanceMethod ({ cls := "BorrowedLuck$Reader", name := "atom", desc := "()LBorrowedLuck$Cond;" } : Jvm.MethodName)) ∈ lw_all := lw_g (lw_at lw_m3 222 rfl) rfl
theorem q824 : (Jvm.Cond.code ({ cls := "BorrowedLuck$Reader", name := "atom", desc := "()LBorrowedLuck$Cond;" } : Jvm.MethodName) prog_8_method_19_code (5 : Nat) (Option.some (Jvm.ClassFile.FieldType.object "BorrowedLuck$Cond"))) ∈ lw_all := lw_g (lw_at lw_m3 223 rfl) rfl
theorem q825 : (Jvm.Cond.stringRef "BorrowedLuck$Reader" (237 : Nat) "not") ∈ lw_tbl := lw_at lw_m3 224 rfl
theorem q826 : (Jvm.Cond.methodLink "BorrowedLuck$Reader" (239 : Nat) ({ cls := "BorrowedLuck$Reader", name := "tag", desc := "()LBorrowedLuck$Cond;" } : Jvm.MethodName)) ∈ lw_all := lw_g (lw_at lw_m3 225 rfl) rfl
theorem q827 : (Jvm.Cond.privateMethod ({ cls := "BorrowedLuck$Reader", name := "tag", desc := "()LBorrowedLuck$Cond;" } : Jvm.MethodName)) ∈ lw_tbl := lw_at lw_m3 226 rfl
theorem q828 : (Jvm.Cond.instanceMethod ({ cls := "BorrowedLuck$Reader", name := "tag", desc := "()LBorrowedLuck$Cond;" } : Jvm.MethodName)) ∈ lw_all := lw_g (lw_at lw_m3 227 rfl) rfl
theorem q829 : (Jvm.Cond.code ({ cls := "BorrowedLuck$Reader", name := "tag", desc := "()LBorrowedLuck$Cond;" } : Jvm.MethodName) prog_8_method_20_code (4 : Nat) (Option.some (Jvm.ClassFile.FieldType.object "BorrowedLuck$Cond"))) ∈ lw_all := lw_g (lw_at lw_m3 228 rfl) rfl
theorem q830 : (Jvm.Cond.classLink "BorrowedLuck$Reader" (245 : Nat) "BorrowedLuck$Tag") ∈ lw_all := lw_g (lw_at lw_m3 229 rfl) rfl
theorem q832 : (Jvm.Cond.methodLink "BorrowedLuck$Reader" (247 : Nat) ({ cls := "BorrowedLuck$Tag", name := "<init>", desc := "(I)V" } : Jvm.MethodName)) ∈ lw_all := lw_g (lw_at lw_m3 231 rfl) rfl
theorem q840 : (Jvm.Cond.methodLink "BorrowedLuck$Reader" (249 : Nat) ({ cls := "BorrowedLuck$Reader", name := "sum", desc := "()LBorrowedLuck$Sum;" } : Jvm.MethodName)) ∈ lw_all := lw_g (lw_at lw_m3 239 rfl) rfl
theorem q841 : (Jvm.Cond.privateMethod ({ cls := "BorrowedLuck$Reader", name := "sum", desc := "()LBorrowedLuck$Sum;" } : Jvm.MethodName)) ∈ lw_tbl := lw_at lw_m4 0 rfl
theorem q842 : (Jvm.Cond.instanceMethod ({ cls := "BorrowedLuck$Reader", name := "sum", desc := "()LBorrowedLuck$Sum;" } : Jvm.MethodName)) ∈ lw_all := lw_g (lw_at lw_m4 1 rfl) rfl
theorem q843 : (Jvm.Cond.code ({ cls := "BorrowedLuck$Reader", name := "sum", desc := "()LBorrowedLuck$Sum;" } : Jvm.MethodName) prog_8_method_21_code (2 : Nat) (Option.some (Jvm.ClassFile.FieldType.object "BorrowedLuck$Sum"))) ∈ lw_all := lw_g (lw_at lw_m4 2 rfl) rfl
theorem q844 : (Jvm.Cond.classLink "BorrowedLuck$Reader" (258 : Nat) "BorrowedLuck$Sum") ∈ lw_all := lw_g (lw_at lw_m4 3 rfl) rfl
theorem q846 : (Jvm.Cond.methodLinkNest "BorrowedLuck$Reader" (260 : Nat) ({ cls := "BorrowedLuck$Sum", name := "<init>", desc := "()V" } : Jvm.MethodName) "BorrowedLuck") ∈ lw_tbl := lw_at lw_m4 5 rfl
theorem q851 : (Jvm.Cond.fieldLinkNest "BorrowedLuck$Reader" (271 : Nat) "BorrowedLuck$Sum" "times" "[I" "BorrowedLuck") ∈ lw_tbl := lw_at lw_m4 10 rfl
theorem q853 : (Jvm.Cond.fieldLinkNest "BorrowedLuck$Reader" (269 : Nat) "BorrowedLuck$Sum" "number" "I" "BorrowedLuck") ∈ lw_tbl := lw_at lw_m4 12 rfl
theorem q859 : (Jvm.Cond.methodLink "BorrowedLuck$Reader" (261 : Nat) ({ cls := "BorrowedLuck$Reader", name := "part", desc := "(LBorrowedLuck$Sum;)V" } : Jvm.MethodName)) ∈ lw_all := lw_g (lw_at lw_m4 18 rfl) rfl
theorem q860 : (Jvm.Cond.privateMethod ({ cls := "BorrowedLuck$Reader", name := "part", desc := "(LBorrowedLuck$Sum;)V" } : Jvm.MethodName)) ∈ lw_tbl := lw_at lw_m4 19 rfl
theorem q861 : (Jvm.Cond.instanceMethod ({ cls := "BorrowedLuck$Reader", name := "part", desc := "(LBorrowedLuck$Sum;)V" } : Jvm.MethodName)) ∈ lw_all := lw_g (lw_at lw_m4 20 rfl) rfl
theorem q862 : (Jvm.Cond.code ({ cls := "BorrowedLuck$Reader", name := "part", desc := "(LBorrowedLuck$Sum;)V" } : Jvm.MethodName) prog_8_method_22_code (3 : Nat) (Option.none : Option Jvm.ClassFile.FieldType)) ∈ lw_all := lw_g (lw_at lw_m4 21 rfl) rfl
theorem q863 : (Jvm.Cond.methodLink "BorrowedLuck$Reader" (265 : Nat) ({ cls := "BorrowedLuck$Reader", name := "isFigure", desc := "()Z" } : Jvm.MethodName)) ∈ lw_all := lw_g (lw_at lw_m4 22 rfl) rfl
theorem q864 : (Jvm.Cond.privateMethod ({ cls := "BorrowedLuck$Reader", name := "isFigure", desc := "()Z" } : Jvm.MethodName)) ∈ lw_tbl := lw_at lw_m4 23 rfl
theorem q865 : (Jvm.Cond.instanceMethod ({ cls := "BorrowedLuck$Reader", name := "isFigure", desc := "()Z" } : Jvm.MethodName)) ∈ lw_all := lw_g (lw_at lw_m4 24 rfl) rfl
theorem q866 : (Jvm.Cond.code ({ cls := "BorrowedLuck$Reader", name := "isFigure", desc := "()Z" } : Jvm.MethodName) prog_8_method_5_code (2 : Nat) (Option.some Jvm.ClassFile.FieldType.boolean)) ∈ lw_all := lw_g (lw_at lw_m4 25 rfl) rfl
theorem q867 : (Jvm.Cond.classLink "BorrowedLuck$Reader" (253 : Nat) "BorrowedLuck$Less") ∈ lw_all := lw_g (lw_at lw_m4 26 rfl) rfl
theorem q869 : (Jvm.Cond.methodLink "BorrowedLuck$Reader" (255 : Nat) ({ cls := "BorrowedLuck$Less", name := "<init>", desc := "(LBorrowedLuck$Sum;LBorrowedLuck$Sum;)V" } : Jvm.MethodName)) ∈ lw_all := lw_g (lw_at lw_m4 28 rfl) rfl
theorem q880 : (Jvm.Cond.classLink "BorrowedLuck$Reader" (242 : Nat) "BorrowedLuck$Not") ∈ lw_all := lw_g (lw_at lw_m4 39 rfl) rfl
theorem q882 : (Jvm.Cond.methodLink "BorrowedLuck$Reader" (244 : Nat) ({ cls := "BorrowedLuck$Not", name := "<init>", desc := "(LBorrowedLuck$Cond;)V" } : Jvm.MethodName)) ∈ lw_all := lw_g (lw_at lw_m4 41 rfl) rfl
theorem q890 : (Jvm.Cond.methodLink "BorrowedLuck$Reader" (226 : Nat) ({ cls := "BorrowedLuck$Chain", name := "<init>", desc := "(LBorrowedLuck$Cond;Z)V" } : Jvm.MethodName)) ∈ lw_all := lw_g (lw_at lw_m4 49 rfl) rfl
theorem q897 : (Jvm.Cond.fieldLinkNest "BorrowedLuck$Reader" (233 : Nat) "BorrowedLuck$Chain" "next" "LBorrowedLuck$Chain;" "BorrowedLuck") ∈ lw_tbl := lw_at lw_m4 56 rfl
theorem q905 : (Jvm.Cond.stringRef "BorrowedLuck$Reader" (229 : Nat) "and") ∈ lw_tbl := lw_at lw_m4 64 rfl
theorem q906 : (Jvm.Cond.stringRef "BorrowedLuck$Reader" (231 : Nat) "or") ∈ lw_tbl := lw_at lw_m4 65 rfl
theorem q907 : (Jvm.Cond.classLink "BorrowedLuck$Reader" (207 : Nat) "BorrowedLuck$Flows") ∈ lw_all := lw_g (lw_at lw_m4 66 rfl) rfl
theorem q909 : (Jvm.Cond.methodLink "BorrowedLuck$Reader" (209 : Nat) ({ cls := "BorrowedLuck$Flows", name := "<init>", desc := "(ILBorrowedLuck$Cond;)V" } : Jvm.MethodName)) ∈ lw_all := lw_g (lw_at lw_m4 68 rfl) rfl
theorem q923 : (Jvm.Cond.classLink "BorrowedLuck$Reader" (212 : Nat) "BorrowedLuck$Wears") ∈ lw_all := lw_g (lw_at lw_m4 82 rfl) rfl
theorem q925 : (Jvm.Cond.methodLink "BorrowedLuck$Reader" (214 : Nat) ({ cls := "BorrowedLuck$Wears", name := "<init>", desc := "(ILBorrowedLuck$Cond;)V" } : Jvm.MethodName)) ∈ lw_all := lw_g (lw_at lw_m4 84 rfl) rfl
theorem q934 : (Jvm.Cond.classLink "BorrowedLuck$Reader" (215 : Nat) "BorrowedLuck$Sticks") ∈ lw_all := lw_g (lw_at lw_m4 93 rfl) rfl
theorem q936 : (Jvm.Cond.methodLink "BorrowedLuck$Reader" (217 : Nat) ({ cls := "BorrowedLuck$Sticks", name := "<init>", desc := "(LBorrowedLuck$Cond;)V" } : Jvm.MethodName)) ∈ lw_all := lw_g (lw_at lw_m4 95 rfl) rfl
theorem q2091 : (Jvm.Cond.castable "BorrowedLuck$Reader" "java/lang/Object") ∈ lw_tbl := lw_at lw_m9 50 rfl
theorem in_X2 : ∀ w ∈ wsX20, w ∈ lw_all := lw_in wsX20 [417, 419, 421, 423, 425, 427, 429, 431, 433, 435] (by decide +kernel) (by decide +kernel)

/-! BorrowedLuck$State -/
set_option maxRecDepth 100000
def RX3 : String := "BorrowedLuck$State"
def TX3 : u_T := fun k => match k with
  | 0 => ("BorrowedLuck$State", "women", "[LBorrowedLuck$Woman;", true)
  | 1 => ("BorrowedLuck$State", "things", "[LBorrowedLuck$Thing;", true)
  | 2 => ("BorrowedLuck$State", "law", "[LBorrowedLuck$Line;", true)
  | 3 => ("BorrowedLuck$State", "facts", "[I", true)
  | 4 => ("BorrowedLuck$State", "flows", "[I", true)
  | 5 => ("BorrowedLuck$State", "rows", "[I", true)
  | 6 => ("BorrowedLuck$State", "many", "I", false)
  | 7 => ("BorrowedLuck$State", "thingMany", "I", false)
  | 8 => ("BorrowedLuck$State", "lawMany", "I", false)
  | 9 => ("BorrowedLuck$State", "texts", "I", false)
  | 10 => ("BorrowedLuck$State", "day", "I", false)
  | 11 => ("BorrowedLuck$State", "price", "I", false)
  | 12 => ("BorrowedLuck$State", "love", "I", false)
  | 13 => ("BorrowedLuck$State", "seed", "I", false)
  | _ => ("BorrowedLuck$State", "rowMany", "I", false)
def tyX3 : Nat → FieldType := fun k => match k with
  | 0 => .array (.object "BorrowedLuck$Woman")
  | 1 => .array (.object "BorrowedLuck$Thing")
  | 2 => .array (.object "BorrowedLuck$Line")
  | 3 => .array .int
  | 4 => .array .int
  | 5 => .array .int
  | 6 => .int
  | 7 => .int
  | 8 => .int
  | 9 => .int
  | 10 => .int
  | 11 => .int
  | 12 => .int
  | 13 => .int
  | _ => .int
abbrev wsX30 : List Cond := u_ws RX3 TX3 15
set_option maxRecDepth 100000 in
theorem nmX3 : ∀ a, a < 15 → ∀ b, b < 15 → a ≠ b → (TX3 a).2.1 ≠ (TX3 b).2.1 := by decide +kernel
set_option maxRecDepth 100000 in
theorem tyX3_ok : ∀ k, k < 15 → parseFieldDescriptor (TX3 k).2.2.1 = some (tyX3 k) := by decide +kernel
abbrev cX3_init : ByteArray := prog_9_method_1_code
def yX3_init : MethodName := ⟨RX3, "<init>", "()V"⟩
def dkwX3_init_5 : List UInt8 := [187, 0, 17, 89, 183, 0, 53, 83, 132, 1, 1, 167, 255, 234, 177]
abbrev dktX3_init_5 : List UInt8 := dkwX3_init_5 ++ []
def dkwX3_init_4 : List UInt8 := [183, 0, 52, 83, 132, 1, 1, 167, 255, 234, 3, 60, 27, 16, 8, 162, 0, 22, 42, 180, 0, 19, 27]
abbrev dktX3_init_4 : List UInt8 := dkwX3_init_4 ++ dktX3_init_5
def dkwX3_init_3 : List UInt8 := [42, 4, 181, 0, 49, 3, 60, 27, 16, 8, 162, 0, 22, 42, 180, 0, 11, 27, 187, 0, 9, 89]
abbrev dktX3_init_3 : List UInt8 := dkwX3_init_3 ++ dktX3_init_4
def dkwX3_init_2 : List UInt8 := [17, 0, 240, 188, 10, 181, 0, 36, 42, 2, 181, 0, 39, 42, 8, 181, 0, 43, 42, 16, 20, 181, 0, 46]
abbrev dktX3_init_2 : List UInt8 := dkwX3_init_2 ++ dktX3_init_3
def dkwX3_init_1 : List UInt8 := [16, 12, 189, 0, 23, 181, 0, 25, 42, 16, 10, 188, 10, 181, 0, 29, 42, 7, 188, 10, 181, 0, 33, 42]
abbrev dktX3_init_1 : List UInt8 := dkwX3_init_1 ++ dktX3_init_2
def dkwX3_init_0 : List UInt8 := [42, 183, 0, 3, 42, 16, 8, 189, 0, 9, 181, 0, 11, 42, 16, 8, 189, 0, 17, 181, 0, 19, 42]
abbrev dktX3_init_0 : List UInt8 := dkwX3_init_0 ++ dktX3_init_1
theorem dksX3_init_0 : cX3_init.data.toList.drop 0 = dktX3_init_0 := by decide +kernel
theorem dksX3_init_1 : cX3_init.data.toList.drop 23 = dktX3_init_1 := dk_seg dksX3_init_0 23 rfl rfl
theorem dksX3_init_2 : cX3_init.data.toList.drop 47 = dktX3_init_2 := dk_seg dksX3_init_1 24 rfl rfl
theorem dksX3_init_3 : cX3_init.data.toList.drop 71 = dktX3_init_3 := dk_seg dksX3_init_2 24 rfl rfl
theorem dksX3_init_4 : cX3_init.data.toList.drop 93 = dktX3_init_4 := dk_seg dksX3_init_3 22 rfl rfl
theorem dksX3_init_5 : cX3_init.data.toList.drop 116 = dktX3_init_5 := dk_seg dksX3_init_4 23 rfl rfl
theorem dX3_init_0 : decode cX3_init 0 = .ok (.aload_n 0, 1) := dk_42 (dk_at dksX3_init_0 0 rfl rfl)
theorem dX3_init_1 : decode cX3_init 1 = .ok (.invokespecial 3, 3) := dk_183 0 3 (dk_at dksX3_init_0 1 rfl rfl)
theorem dX3_init_4 : decode cX3_init 4 = .ok (.aload_n 0, 1) := dk_42 (dk_at dksX3_init_0 4 rfl rfl)
theorem dX3_init_5 : decode cX3_init 5 = .ok (.bipush 8, 2) := dk_16 8 (dk_at dksX3_init_0 5 rfl rfl)
theorem dX3_init_7 : decode cX3_init 7 = .ok (.anewarray 9, 3) := dk_189 0 9 (dk_at dksX3_init_0 7 rfl rfl)
theorem dX3_init_10 : decode cX3_init 10 = .ok (.putfield 11, 3) := dk_181 0 11 (dk_at dksX3_init_0 10 rfl rfl)
theorem dX3_init_13 : decode cX3_init 13 = .ok (.aload_n 0, 1) := dk_42 (dk_at dksX3_init_0 13 rfl rfl)
theorem dX3_init_14 : decode cX3_init 14 = .ok (.bipush 8, 2) := dk_16 8 (dk_at dksX3_init_0 14 rfl rfl)
theorem dX3_init_16 : decode cX3_init 16 = .ok (.anewarray 17, 3) := dk_189 0 17 (dk_at dksX3_init_0 16 rfl rfl)
theorem dX3_init_19 : decode cX3_init 19 = .ok (.putfield 19, 3) := dk_181 0 19 (dk_at dksX3_init_0 19 rfl rfl)
theorem dX3_init_22 : decode cX3_init 22 = .ok (.aload_n 0, 1) := dk_42 (dk_at dksX3_init_0 22 rfl rfl)
theorem dX3_init_23 : decode cX3_init 23 = .ok (.bipush 12, 2) := dk_16 12 (dk_at dksX3_init_1 0 rfl rfl)
theorem dX3_init_25 : decode cX3_init 25 = .ok (.anewarray 23, 3) := dk_189 0 23 (dk_at dksX3_init_1 2 rfl rfl)
theorem dX3_init_28 : decode cX3_init 28 = .ok (.putfield 25, 3) := dk_181 0 25 (dk_at dksX3_init_1 5 rfl rfl)
theorem dX3_init_31 : decode cX3_init 31 = .ok (.aload_n 0, 1) := dk_42 (dk_at dksX3_init_1 8 rfl rfl)
theorem dX3_init_32 : decode cX3_init 32 = .ok (.bipush 10, 2) := dk_16 10 (dk_at dksX3_init_1 9 rfl rfl)
theorem dX3_init_34 : decode cX3_init 34 = .ok (.newarray .int, 2) := dk_188_10 (dk_at dksX3_init_1 11 rfl rfl)
theorem dX3_init_36 : decode cX3_init 36 = .ok (.putfield 29, 3) := dk_181 0 29 (dk_at dksX3_init_1 13 rfl rfl)
theorem dX3_init_39 : decode cX3_init 39 = .ok (.aload_n 0, 1) := dk_42 (dk_at dksX3_init_1 16 rfl rfl)
theorem dX3_init_40 : decode cX3_init 40 = .ok (.iconst 4, 1) := dk_7 (dk_at dksX3_init_1 17 rfl rfl)
theorem dX3_init_41 : decode cX3_init 41 = .ok (.newarray .int, 2) := dk_188_10 (dk_at dksX3_init_1 18 rfl rfl)
theorem dX3_init_43 : decode cX3_init 43 = .ok (.putfield 33, 3) := dk_181 0 33 (dk_at dksX3_init_1 20 rfl rfl)
theorem dX3_init_46 : decode cX3_init 46 = .ok (.aload_n 0, 1) := dk_42 (dk_at dksX3_init_1 23 rfl rfl)
theorem dX3_init_47 : decode cX3_init 47 = .ok (.sipush 240, 3) := dk_17 0 240 (dk_at dksX3_init_2 0 rfl rfl)
theorem dX3_init_50 : decode cX3_init 50 = .ok (.newarray .int, 2) := dk_188_10 (dk_at dksX3_init_2 3 rfl rfl)
theorem dX3_init_52 : decode cX3_init 52 = .ok (.putfield 36, 3) := dk_181 0 36 (dk_at dksX3_init_2 5 rfl rfl)
theorem dX3_init_55 : decode cX3_init 55 = .ok (.aload_n 0, 1) := dk_42 (dk_at dksX3_init_2 8 rfl rfl)
theorem dX3_init_56 : decode cX3_init 56 = .ok (.iconst (-1), 1) := dk_2 (dk_at dksX3_init_2 9 rfl rfl)
theorem dX3_init_57 : decode cX3_init 57 = .ok (.putfield 39, 3) := dk_181 0 39 (dk_at dksX3_init_2 10 rfl rfl)
theorem dX3_init_60 : decode cX3_init 60 = .ok (.aload_n 0, 1) := dk_42 (dk_at dksX3_init_2 13 rfl rfl)
theorem dX3_init_61 : decode cX3_init 61 = .ok (.iconst 5, 1) := dk_8 (dk_at dksX3_init_2 14 rfl rfl)
theorem dX3_init_62 : decode cX3_init 62 = .ok (.putfield 43, 3) := dk_181 0 43 (dk_at dksX3_init_2 15 rfl rfl)
theorem dX3_init_65 : decode cX3_init 65 = .ok (.aload_n 0, 1) := dk_42 (dk_at dksX3_init_2 18 rfl rfl)
theorem dX3_init_66 : decode cX3_init 66 = .ok (.bipush 20, 2) := dk_16 20 (dk_at dksX3_init_2 19 rfl rfl)
theorem dX3_init_68 : decode cX3_init 68 = .ok (.putfield 46, 3) := dk_181 0 46 (dk_at dksX3_init_2 21 rfl rfl)
theorem dX3_init_71 : decode cX3_init 71 = .ok (.aload_n 0, 1) := dk_42 (dk_at dksX3_init_3 0 rfl rfl)
theorem dX3_init_72 : decode cX3_init 72 = .ok (.iconst 1, 1) := dk_4 (dk_at dksX3_init_3 1 rfl rfl)
theorem dX3_init_73 : decode cX3_init 73 = .ok (.putfield 49, 3) := dk_181 0 49 (dk_at dksX3_init_3 2 rfl rfl)
theorem dX3_init_76 : decode cX3_init 76 = .ok (.iconst 0, 1) := dk_3 (dk_at dksX3_init_3 5 rfl rfl)
theorem dX3_init_77 : decode cX3_init 77 = .ok (.istore_n 1, 1) := dk_60 (dk_at dksX3_init_3 6 rfl rfl)
theorem dX3_init_78 : decode cX3_init 78 = .ok (.iload_n 1, 1) := dk_27 (dk_at dksX3_init_3 7 rfl rfl)
theorem dX3_init_79 : decode cX3_init 79 = .ok (.bipush 8, 2) := dk_16 8 (dk_at dksX3_init_3 8 rfl rfl)
theorem dX3_init_81 : decode cX3_init 81 = .ok (.if_icmp .ge 22, 3) := dk_162 0 22 (dk_at dksX3_init_3 10 rfl rfl)
theorem dX3_init_84 : decode cX3_init 84 = .ok (.aload_n 0, 1) := dk_42 (dk_at dksX3_init_3 13 rfl rfl)
theorem dX3_init_85 : decode cX3_init 85 = .ok (.getfield 11, 3) := dk_180 0 11 (dk_at dksX3_init_3 14 rfl rfl)
theorem dX3_init_88 : decode cX3_init 88 = .ok (.iload_n 1, 1) := dk_27 (dk_at dksX3_init_3 17 rfl rfl)
theorem dX3_init_89 : decode cX3_init 89 = .ok (.new 9, 3) := dk_187 0 9 (dk_at dksX3_init_3 18 rfl rfl)
theorem dX3_init_92 : decode cX3_init 92 = .ok (.dup, 1) := dk_89 (dk_at dksX3_init_3 21 rfl rfl)
theorem dX3_init_93 : decode cX3_init 93 = .ok (.invokespecial 52, 3) := dk_183 0 52 (dk_at dksX3_init_4 0 rfl rfl)
theorem dX3_init_96 : decode cX3_init 96 = .ok (.aastore, 1) := dk_83 (dk_at dksX3_init_4 3 rfl rfl)
theorem dX3_init_97 : decode cX3_init 97 = .ok (.iinc 1 1, 3) := dk_132 1 1 (dk_at dksX3_init_4 4 rfl rfl)
theorem dX3_init_100 : decode cX3_init 100 = .ok (.goto (-22), 3) := dk_167 255 234 (dk_at dksX3_init_4 7 rfl rfl)
theorem dX3_init_103 : decode cX3_init 103 = .ok (.iconst 0, 1) := dk_3 (dk_at dksX3_init_4 10 rfl rfl)
theorem dX3_init_104 : decode cX3_init 104 = .ok (.istore_n 1, 1) := dk_60 (dk_at dksX3_init_4 11 rfl rfl)
theorem dX3_init_105 : decode cX3_init 105 = .ok (.iload_n 1, 1) := dk_27 (dk_at dksX3_init_4 12 rfl rfl)
theorem dX3_init_106 : decode cX3_init 106 = .ok (.bipush 8, 2) := dk_16 8 (dk_at dksX3_init_4 13 rfl rfl)
theorem dX3_init_108 : decode cX3_init 108 = .ok (.if_icmp .ge 22, 3) := dk_162 0 22 (dk_at dksX3_init_4 15 rfl rfl)
theorem dX3_init_111 : decode cX3_init 111 = .ok (.aload_n 0, 1) := dk_42 (dk_at dksX3_init_4 18 rfl rfl)
theorem dX3_init_112 : decode cX3_init 112 = .ok (.getfield 19, 3) := dk_180 0 19 (dk_at dksX3_init_4 19 rfl rfl)
theorem dX3_init_115 : decode cX3_init 115 = .ok (.iload_n 1, 1) := dk_27 (dk_at dksX3_init_4 22 rfl rfl)
theorem dX3_init_116 : decode cX3_init 116 = .ok (.new 17, 3) := dk_187 0 17 (dk_at dksX3_init_5 0 rfl rfl)
theorem dX3_init_119 : decode cX3_init 119 = .ok (.dup, 1) := dk_89 (dk_at dksX3_init_5 3 rfl rfl)
theorem dX3_init_120 : decode cX3_init 120 = .ok (.invokespecial 53, 3) := dk_183 0 53 (dk_at dksX3_init_5 4 rfl rfl)
theorem dX3_init_123 : decode cX3_init 123 = .ok (.aastore, 1) := dk_83 (dk_at dksX3_init_5 7 rfl rfl)
theorem dX3_init_124 : decode cX3_init 124 = .ok (.iinc 1 1, 3) := dk_132 1 1 (dk_at dksX3_init_5 8 rfl rfl)
theorem dX3_init_127 : decode cX3_init 127 = .ok (.goto (-22), 3) := dk_167 255 234 (dk_at dksX3_init_5 11 rfl rfl)
theorem dX3_init_130 : decode cX3_init 130 = .ok (.return_, 1) := dk_177 (dk_at dksX3_init_5 14 rfl rfl)
abbrev cX3_stuckOnes : ByteArray := prog_9_method_15_code
def yX3_stuckOnes : MethodName := ⟨RX3, "stuckOnes", "()I"⟩
def dkwX3_stuckOnes_1 : List UInt8 := [153, 0, 9, 4, 28, 120, 167, 0, 4, 3, 128, 60, 132, 2, 1, 167, 255, 223, 27, 172]
abbrev dktX3_stuckOnes_1 : List UInt8 := dkwX3_stuckOnes_1 ++ []
def dkwX3_stuckOnes_0 : List UInt8 := [3, 60, 3, 61, 28, 42, 180, 0, 61, 162, 0, 31, 27, 42, 180, 0, 19, 28, 50, 180, 0, 140]
abbrev dktX3_stuckOnes_0 : List UInt8 := dkwX3_stuckOnes_0 ++ dktX3_stuckOnes_1
theorem dksX3_stuckOnes_0 : cX3_stuckOnes.data.toList.drop 0 = dktX3_stuckOnes_0 := by decide +kernel
theorem dksX3_stuckOnes_1 : cX3_stuckOnes.data.toList.drop 22 = dktX3_stuckOnes_1 := dk_seg dksX3_stuckOnes_0 22 rfl rfl
theorem dX3_stuckOnes_0 : decode cX3_stuckOnes 0 = .ok (.iconst 0, 1) := dk_3 (dk_at dksX3_stuckOnes_0 0 rfl rfl)
theorem dX3_stuckOnes_1 : decode cX3_stuckOnes 1 = .ok (.istore_n 1, 1) := dk_60 (dk_at dksX3_stuckOnes_0 1 rfl rfl)
theorem dX3_stuckOnes_2 : decode cX3_stuckOnes 2 = .ok (.iconst 0, 1) := dk_3 (dk_at dksX3_stuckOnes_0 2 rfl rfl)
theorem dX3_stuckOnes_3 : decode cX3_stuckOnes 3 = .ok (.istore_n 2, 1) := dk_61 (dk_at dksX3_stuckOnes_0 3 rfl rfl)
theorem dX3_stuckOnes_4 : decode cX3_stuckOnes 4 = .ok (.iload_n 2, 1) := dk_28 (dk_at dksX3_stuckOnes_0 4 rfl rfl)
theorem dX3_stuckOnes_5 : decode cX3_stuckOnes 5 = .ok (.aload_n 0, 1) := dk_42 (dk_at dksX3_stuckOnes_0 5 rfl rfl)
theorem dX3_stuckOnes_6 : decode cX3_stuckOnes 6 = .ok (.getfield 61, 3) := dk_180 0 61 (dk_at dksX3_stuckOnes_0 6 rfl rfl)
theorem dX3_stuckOnes_9 : decode cX3_stuckOnes 9 = .ok (.if_icmp .ge 31, 3) := dk_162 0 31 (dk_at dksX3_stuckOnes_0 9 rfl rfl)
theorem dX3_stuckOnes_12 : decode cX3_stuckOnes 12 = .ok (.iload_n 1, 1) := dk_27 (dk_at dksX3_stuckOnes_0 12 rfl rfl)
theorem dX3_stuckOnes_13 : decode cX3_stuckOnes 13 = .ok (.aload_n 0, 1) := dk_42 (dk_at dksX3_stuckOnes_0 13 rfl rfl)
theorem dX3_stuckOnes_14 : decode cX3_stuckOnes 14 = .ok (.getfield 19, 3) := dk_180 0 19 (dk_at dksX3_stuckOnes_0 14 rfl rfl)
theorem dX3_stuckOnes_17 : decode cX3_stuckOnes 17 = .ok (.iload_n 2, 1) := dk_28 (dk_at dksX3_stuckOnes_0 17 rfl rfl)
theorem dX3_stuckOnes_18 : decode cX3_stuckOnes 18 = .ok (.aaload, 1) := dk_50 (dk_at dksX3_stuckOnes_0 18 rfl rfl)
theorem dX3_stuckOnes_19 : decode cX3_stuckOnes 19 = .ok (.getfield 140, 3) := dk_180 0 140 (dk_at dksX3_stuckOnes_0 19 rfl rfl)
theorem dX3_stuckOnes_22 : decode cX3_stuckOnes 22 = .ok (.ifCond .eq 9, 3) := dk_153 0 9 (dk_at dksX3_stuckOnes_1 0 rfl rfl)
theorem dX3_stuckOnes_25 : decode cX3_stuckOnes 25 = .ok (.iconst 1, 1) := dk_4 (dk_at dksX3_stuckOnes_1 3 rfl rfl)
theorem dX3_stuckOnes_26 : decode cX3_stuckOnes 26 = .ok (.iload_n 2, 1) := dk_28 (dk_at dksX3_stuckOnes_1 4 rfl rfl)
theorem dX3_stuckOnes_27 : decode cX3_stuckOnes 27 = .ok (.ishl, 1) := dk_120 (dk_at dksX3_stuckOnes_1 5 rfl rfl)
theorem dX3_stuckOnes_28 : decode cX3_stuckOnes 28 = .ok (.goto 4, 3) := dk_167 0 4 (dk_at dksX3_stuckOnes_1 6 rfl rfl)
theorem dX3_stuckOnes_31 : decode cX3_stuckOnes 31 = .ok (.iconst 0, 1) := dk_3 (dk_at dksX3_stuckOnes_1 9 rfl rfl)
theorem dX3_stuckOnes_32 : decode cX3_stuckOnes 32 = .ok (.ior, 1) := dk_128 (dk_at dksX3_stuckOnes_1 10 rfl rfl)
theorem dX3_stuckOnes_33 : decode cX3_stuckOnes 33 = .ok (.istore_n 1, 1) := dk_60 (dk_at dksX3_stuckOnes_1 11 rfl rfl)
theorem dX3_stuckOnes_34 : decode cX3_stuckOnes 34 = .ok (.iinc 2 1, 3) := dk_132 2 1 (dk_at dksX3_stuckOnes_1 12 rfl rfl)
theorem dX3_stuckOnes_37 : decode cX3_stuckOnes 37 = .ok (.goto (-33), 3) := dk_167 255 223 (dk_at dksX3_stuckOnes_1 15 rfl rfl)
theorem dX3_stuckOnes_40 : decode cX3_stuckOnes 40 = .ok (.iload_n 1, 1) := dk_27 (dk_at dksX3_stuckOnes_1 18 rfl rfl)
theorem dX3_stuckOnes_41 : decode cX3_stuckOnes 41 = .ok (.ireturn, 1) := dk_172 (dk_at dksX3_stuckOnes_1 19 rfl rfl)
abbrev cX3_comes : ByteArray := prog_9_method_12_code
def yX3_comes : MethodName := ⟨RX3, "comes", "(II)Z"⟩
def dkwX3_comes_1 : List UInt8 := [180, 0, 11, 45, 180, 0, 150, 50, 180, 0, 93, 154, 0, 7, 4, 167, 0, 4, 3, 172]
abbrev dktX3_comes_1 : List UInt8 := dkwX3_comes_1 ++ []
def dkwX3_comes_0 : List UInt8 := [42, 180, 0, 19, 28, 50, 78, 45, 27, 182, 0, 146, 153, 0, 30, 45, 180, 0, 150, 27, 159, 0, 18, 42]
abbrev dktX3_comes_0 : List UInt8 := dkwX3_comes_0 ++ dktX3_comes_1
theorem dksX3_comes_0 : cX3_comes.data.toList.drop 0 = dktX3_comes_0 := by decide +kernel
theorem dksX3_comes_1 : cX3_comes.data.toList.drop 24 = dktX3_comes_1 := dk_seg dksX3_comes_0 24 rfl rfl
theorem dX3_comes_0 : decode cX3_comes 0 = .ok (.aload_n 0, 1) := dk_42 (dk_at dksX3_comes_0 0 rfl rfl)
theorem dX3_comes_1 : decode cX3_comes 1 = .ok (.getfield 19, 3) := dk_180 0 19 (dk_at dksX3_comes_0 1 rfl rfl)
theorem dX3_comes_4 : decode cX3_comes 4 = .ok (.iload_n 2, 1) := dk_28 (dk_at dksX3_comes_0 4 rfl rfl)
theorem dX3_comes_5 : decode cX3_comes 5 = .ok (.aaload, 1) := dk_50 (dk_at dksX3_comes_0 5 rfl rfl)
theorem dX3_comes_6 : decode cX3_comes 6 = .ok (.astore_n 3, 1) := dk_78 (dk_at dksX3_comes_0 6 rfl rfl)
theorem dX3_comes_7 : decode cX3_comes 7 = .ok (.aload_n 3, 1) := dk_45 (dk_at dksX3_comes_0 7 rfl rfl)
theorem dX3_comes_8 : decode cX3_comes 8 = .ok (.iload_n 1, 1) := dk_27 (dk_at dksX3_comes_0 8 rfl rfl)
theorem dX3_comes_9 : decode cX3_comes 9 = .ok (.invokevirtual 146, 3) := dk_182 0 146 (dk_at dksX3_comes_0 9 rfl rfl)
theorem dX3_comes_12 : decode cX3_comes 12 = .ok (.ifCond .eq 30, 3) := dk_153 0 30 (dk_at dksX3_comes_0 12 rfl rfl)
theorem dX3_comes_15 : decode cX3_comes 15 = .ok (.aload_n 3, 1) := dk_45 (dk_at dksX3_comes_0 15 rfl rfl)
theorem dX3_comes_16 : decode cX3_comes 16 = .ok (.getfield 150, 3) := dk_180 0 150 (dk_at dksX3_comes_0 16 rfl rfl)
theorem dX3_comes_19 : decode cX3_comes 19 = .ok (.iload_n 1, 1) := dk_27 (dk_at dksX3_comes_0 19 rfl rfl)
theorem dX3_comes_20 : decode cX3_comes 20 = .ok (.if_icmp .eq 18, 3) := dk_159 0 18 (dk_at dksX3_comes_0 20 rfl rfl)
theorem dX3_comes_23 : decode cX3_comes 23 = .ok (.aload_n 0, 1) := dk_42 (dk_at dksX3_comes_0 23 rfl rfl)
theorem dX3_comes_24 : decode cX3_comes 24 = .ok (.getfield 11, 3) := dk_180 0 11 (dk_at dksX3_comes_1 0 rfl rfl)
theorem dX3_comes_27 : decode cX3_comes 27 = .ok (.aload_n 3, 1) := dk_45 (dk_at dksX3_comes_1 3 rfl rfl)
theorem dX3_comes_28 : decode cX3_comes 28 = .ok (.getfield 150, 3) := dk_180 0 150 (dk_at dksX3_comes_1 4 rfl rfl)
theorem dX3_comes_31 : decode cX3_comes 31 = .ok (.aaload, 1) := dk_50 (dk_at dksX3_comes_1 7 rfl rfl)
theorem dX3_comes_32 : decode cX3_comes 32 = .ok (.getfield 93, 3) := dk_180 0 93 (dk_at dksX3_comes_1 8 rfl rfl)
theorem dX3_comes_35 : decode cX3_comes 35 = .ok (.ifCond .ne 7, 3) := dk_154 0 7 (dk_at dksX3_comes_1 11 rfl rfl)
theorem dX3_comes_38 : decode cX3_comes 38 = .ok (.iconst 1, 1) := dk_4 (dk_at dksX3_comes_1 14 rfl rfl)
theorem dX3_comes_39 : decode cX3_comes 39 = .ok (.goto 4, 3) := dk_167 0 4 (dk_at dksX3_comes_1 15 rfl rfl)
theorem dX3_comes_42 : decode cX3_comes 42 = .ok (.iconst 0, 1) := dk_3 (dk_at dksX3_comes_1 18 rfl rfl)
theorem dX3_comes_43 : decode cX3_comes 43 = .ok (.ireturn, 1) := dk_172 (dk_at dksX3_comes_1 19 rfl rfl)
abbrev cX3_be : ByteArray := prog_9_method_2_code
def yX3_be : MethodName := ⟨RX3, "be", "(LBorrowedLuck$State;)V"⟩
def dkwX3_be_7 : List UInt8 := [181, 0, 79, 177]
abbrev dktX3_be_7 : List UInt8 := dkwX3_be_7 ++ []
def dkwX3_be_6 : List UInt8 := [181, 0, 43, 42, 43, 180, 0, 46, 181, 0, 46, 42, 43, 180, 0, 49, 181, 0, 49, 42, 43, 180, 0, 79]
abbrev dktX3_be_6 : List UInt8 := dkwX3_be_6 ++ dktX3_be_7
def dkwX3_be_5 : List UInt8 := [181, 0, 39, 42, 43, 180, 0, 73, 181, 0, 73, 42, 43, 180, 0, 76, 181, 0, 76, 42, 43, 180, 0, 43]
abbrev dktX3_be_5 : List UInt8 := dkwX3_be_5 ++ dktX3_be_6
def dkwX3_be_4 : List UInt8 := [184, 0, 67, 42, 43, 180, 0, 54, 181, 0, 54, 42, 43, 180, 0, 61, 181, 0, 61, 42, 43, 180, 0, 39]
abbrev dktX3_be_4 : List UInt8 := dkwX3_be_4 ++ dktX3_be_5
def dkwX3_be_3 : List UInt8 := [180, 0, 25, 3, 16, 12, 184, 0, 67, 43, 180, 0, 36, 3, 42, 180, 0, 36, 3, 17, 0, 240]
abbrev dktX3_be_3 : List UInt8 := dkwX3_be_3 ++ dktX3_be_4
def dkwX3_be_2 : List UInt8 := [50, 43, 180, 0, 19, 28, 50, 182, 0, 64, 132, 2, 1, 167, 255, 230, 43, 180, 0, 25, 3, 42]
abbrev dktX3_be_2 : List UInt8 := dkwX3_be_2 ++ dktX3_be_3
def dkwX3_be_1 : List UInt8 := [182, 0, 57, 132, 2, 1, 167, 255, 230, 3, 61, 28, 43, 180, 0, 61, 162, 0, 24, 42, 180, 0, 19, 28]
abbrev dktX3_be_1 : List UInt8 := dkwX3_be_1 ++ dktX3_be_2
def dkwX3_be_0 : List UInt8 := [3, 61, 28, 43, 180, 0, 54, 162, 0, 24, 42, 180, 0, 11, 28, 50, 43, 180, 0, 11, 28, 50]
abbrev dktX3_be_0 : List UInt8 := dkwX3_be_0 ++ dktX3_be_1
theorem dksX3_be_0 : cX3_be.data.toList.drop 0 = dktX3_be_0 := by decide +kernel
theorem dksX3_be_1 : cX3_be.data.toList.drop 22 = dktX3_be_1 := dk_seg dksX3_be_0 22 rfl rfl
theorem dksX3_be_2 : cX3_be.data.toList.drop 46 = dktX3_be_2 := dk_seg dksX3_be_1 24 rfl rfl
theorem dksX3_be_3 : cX3_be.data.toList.drop 68 = dktX3_be_3 := dk_seg dksX3_be_2 22 rfl rfl
theorem dksX3_be_4 : cX3_be.data.toList.drop 90 = dktX3_be_4 := dk_seg dksX3_be_3 22 rfl rfl
theorem dksX3_be_5 : cX3_be.data.toList.drop 114 = dktX3_be_5 := dk_seg dksX3_be_4 24 rfl rfl
theorem dksX3_be_6 : cX3_be.data.toList.drop 138 = dktX3_be_6 := dk_seg dksX3_be_5 24 rfl rfl
theorem dksX3_be_7 : cX3_be.data.toList.drop 162 = dktX3_be_7 := dk_seg dksX3_be_6 24 rfl rfl
theorem dX3_be_0 : decode cX3_be 0 = .ok (.iconst 0, 1) := dk_3 (dk_at dksX3_be_0 0 rfl rfl)
theorem dX3_be_1 : decode cX3_be 1 = .ok (.istore_n 2, 1) := dk_61 (dk_at dksX3_be_0 1 rfl rfl)
theorem dX3_be_2 : decode cX3_be 2 = .ok (.iload_n 2, 1) := dk_28 (dk_at dksX3_be_0 2 rfl rfl)
theorem dX3_be_3 : decode cX3_be 3 = .ok (.aload_n 1, 1) := dk_43 (dk_at dksX3_be_0 3 rfl rfl)
theorem dX3_be_4 : decode cX3_be 4 = .ok (.getfield 54, 3) := dk_180 0 54 (dk_at dksX3_be_0 4 rfl rfl)
theorem dX3_be_7 : decode cX3_be 7 = .ok (.if_icmp .ge 24, 3) := dk_162 0 24 (dk_at dksX3_be_0 7 rfl rfl)
theorem dX3_be_10 : decode cX3_be 10 = .ok (.aload_n 0, 1) := dk_42 (dk_at dksX3_be_0 10 rfl rfl)
theorem dX3_be_11 : decode cX3_be 11 = .ok (.getfield 11, 3) := dk_180 0 11 (dk_at dksX3_be_0 11 rfl rfl)
theorem dX3_be_14 : decode cX3_be 14 = .ok (.iload_n 2, 1) := dk_28 (dk_at dksX3_be_0 14 rfl rfl)
theorem dX3_be_15 : decode cX3_be 15 = .ok (.aaload, 1) := dk_50 (dk_at dksX3_be_0 15 rfl rfl)
theorem dX3_be_16 : decode cX3_be 16 = .ok (.aload_n 1, 1) := dk_43 (dk_at dksX3_be_0 16 rfl rfl)
theorem dX3_be_17 : decode cX3_be 17 = .ok (.getfield 11, 3) := dk_180 0 11 (dk_at dksX3_be_0 17 rfl rfl)
theorem dX3_be_20 : decode cX3_be 20 = .ok (.iload_n 2, 1) := dk_28 (dk_at dksX3_be_0 20 rfl rfl)
theorem dX3_be_21 : decode cX3_be 21 = .ok (.aaload, 1) := dk_50 (dk_at dksX3_be_0 21 rfl rfl)
theorem dX3_be_22 : decode cX3_be 22 = .ok (.invokevirtual 57, 3) := dk_182 0 57 (dk_at dksX3_be_1 0 rfl rfl)
theorem dX3_be_25 : decode cX3_be 25 = .ok (.iinc 2 1, 3) := dk_132 2 1 (dk_at dksX3_be_1 3 rfl rfl)
theorem dX3_be_28 : decode cX3_be 28 = .ok (.goto (-26), 3) := dk_167 255 230 (dk_at dksX3_be_1 6 rfl rfl)
theorem dX3_be_31 : decode cX3_be 31 = .ok (.iconst 0, 1) := dk_3 (dk_at dksX3_be_1 9 rfl rfl)
theorem dX3_be_32 : decode cX3_be 32 = .ok (.istore_n 2, 1) := dk_61 (dk_at dksX3_be_1 10 rfl rfl)
theorem dX3_be_33 : decode cX3_be 33 = .ok (.iload_n 2, 1) := dk_28 (dk_at dksX3_be_1 11 rfl rfl)
theorem dX3_be_34 : decode cX3_be 34 = .ok (.aload_n 1, 1) := dk_43 (dk_at dksX3_be_1 12 rfl rfl)
theorem dX3_be_35 : decode cX3_be 35 = .ok (.getfield 61, 3) := dk_180 0 61 (dk_at dksX3_be_1 13 rfl rfl)
theorem dX3_be_38 : decode cX3_be 38 = .ok (.if_icmp .ge 24, 3) := dk_162 0 24 (dk_at dksX3_be_1 16 rfl rfl)
theorem dX3_be_41 : decode cX3_be 41 = .ok (.aload_n 0, 1) := dk_42 (dk_at dksX3_be_1 19 rfl rfl)
theorem dX3_be_42 : decode cX3_be 42 = .ok (.getfield 19, 3) := dk_180 0 19 (dk_at dksX3_be_1 20 rfl rfl)
theorem dX3_be_45 : decode cX3_be 45 = .ok (.iload_n 2, 1) := dk_28 (dk_at dksX3_be_1 23 rfl rfl)
theorem dX3_be_46 : decode cX3_be 46 = .ok (.aaload, 1) := dk_50 (dk_at dksX3_be_2 0 rfl rfl)
theorem dX3_be_47 : decode cX3_be 47 = .ok (.aload_n 1, 1) := dk_43 (dk_at dksX3_be_2 1 rfl rfl)
theorem dX3_be_48 : decode cX3_be 48 = .ok (.getfield 19, 3) := dk_180 0 19 (dk_at dksX3_be_2 2 rfl rfl)
theorem dX3_be_51 : decode cX3_be 51 = .ok (.iload_n 2, 1) := dk_28 (dk_at dksX3_be_2 5 rfl rfl)
theorem dX3_be_52 : decode cX3_be 52 = .ok (.aaload, 1) := dk_50 (dk_at dksX3_be_2 6 rfl rfl)
theorem dX3_be_53 : decode cX3_be 53 = .ok (.invokevirtual 64, 3) := dk_182 0 64 (dk_at dksX3_be_2 7 rfl rfl)
theorem dX3_be_56 : decode cX3_be 56 = .ok (.iinc 2 1, 3) := dk_132 2 1 (dk_at dksX3_be_2 10 rfl rfl)
theorem dX3_be_59 : decode cX3_be 59 = .ok (.goto (-26), 3) := dk_167 255 230 (dk_at dksX3_be_2 13 rfl rfl)
theorem dX3_be_62 : decode cX3_be 62 = .ok (.aload_n 1, 1) := dk_43 (dk_at dksX3_be_2 16 rfl rfl)
theorem dX3_be_63 : decode cX3_be 63 = .ok (.getfield 25, 3) := dk_180 0 25 (dk_at dksX3_be_2 17 rfl rfl)
theorem dX3_be_66 : decode cX3_be 66 = .ok (.iconst 0, 1) := dk_3 (dk_at dksX3_be_2 20 rfl rfl)
theorem dX3_be_67 : decode cX3_be 67 = .ok (.aload_n 0, 1) := dk_42 (dk_at dksX3_be_2 21 rfl rfl)
theorem dX3_be_68 : decode cX3_be 68 = .ok (.getfield 25, 3) := dk_180 0 25 (dk_at dksX3_be_3 0 rfl rfl)
theorem dX3_be_71 : decode cX3_be 71 = .ok (.iconst 0, 1) := dk_3 (dk_at dksX3_be_3 3 rfl rfl)
theorem dX3_be_72 : decode cX3_be 72 = .ok (.bipush 12, 2) := dk_16 12 (dk_at dksX3_be_3 4 rfl rfl)
theorem dX3_be_74 : decode cX3_be 74 = .ok (.invokestatic 67, 3) := dk_184 0 67 (dk_at dksX3_be_3 6 rfl rfl)
theorem dX3_be_77 : decode cX3_be 77 = .ok (.aload_n 1, 1) := dk_43 (dk_at dksX3_be_3 9 rfl rfl)
theorem dX3_be_78 : decode cX3_be 78 = .ok (.getfield 36, 3) := dk_180 0 36 (dk_at dksX3_be_3 10 rfl rfl)
theorem dX3_be_81 : decode cX3_be 81 = .ok (.iconst 0, 1) := dk_3 (dk_at dksX3_be_3 13 rfl rfl)
theorem dX3_be_82 : decode cX3_be 82 = .ok (.aload_n 0, 1) := dk_42 (dk_at dksX3_be_3 14 rfl rfl)
theorem dX3_be_83 : decode cX3_be 83 = .ok (.getfield 36, 3) := dk_180 0 36 (dk_at dksX3_be_3 15 rfl rfl)
theorem dX3_be_86 : decode cX3_be 86 = .ok (.iconst 0, 1) := dk_3 (dk_at dksX3_be_3 18 rfl rfl)
theorem dX3_be_87 : decode cX3_be 87 = .ok (.sipush 240, 3) := dk_17 0 240 (dk_at dksX3_be_3 19 rfl rfl)
theorem dX3_be_90 : decode cX3_be 90 = .ok (.invokestatic 67, 3) := dk_184 0 67 (dk_at dksX3_be_4 0 rfl rfl)
theorem dX3_be_93 : decode cX3_be 93 = .ok (.aload_n 0, 1) := dk_42 (dk_at dksX3_be_4 3 rfl rfl)
theorem dX3_be_94 : decode cX3_be 94 = .ok (.aload_n 1, 1) := dk_43 (dk_at dksX3_be_4 4 rfl rfl)
theorem dX3_be_95 : decode cX3_be 95 = .ok (.getfield 54, 3) := dk_180 0 54 (dk_at dksX3_be_4 5 rfl rfl)
theorem dX3_be_98 : decode cX3_be 98 = .ok (.putfield 54, 3) := dk_181 0 54 (dk_at dksX3_be_4 8 rfl rfl)
theorem dX3_be_101 : decode cX3_be 101 = .ok (.aload_n 0, 1) := dk_42 (dk_at dksX3_be_4 11 rfl rfl)
theorem dX3_be_102 : decode cX3_be 102 = .ok (.aload_n 1, 1) := dk_43 (dk_at dksX3_be_4 12 rfl rfl)
theorem dX3_be_103 : decode cX3_be 103 = .ok (.getfield 61, 3) := dk_180 0 61 (dk_at dksX3_be_4 13 rfl rfl)
theorem dX3_be_106 : decode cX3_be 106 = .ok (.putfield 61, 3) := dk_181 0 61 (dk_at dksX3_be_4 16 rfl rfl)
theorem dX3_be_109 : decode cX3_be 109 = .ok (.aload_n 0, 1) := dk_42 (dk_at dksX3_be_4 19 rfl rfl)
theorem dX3_be_110 : decode cX3_be 110 = .ok (.aload_n 1, 1) := dk_43 (dk_at dksX3_be_4 20 rfl rfl)
theorem dX3_be_111 : decode cX3_be 111 = .ok (.getfield 39, 3) := dk_180 0 39 (dk_at dksX3_be_4 21 rfl rfl)
theorem dX3_be_114 : decode cX3_be 114 = .ok (.putfield 39, 3) := dk_181 0 39 (dk_at dksX3_be_5 0 rfl rfl)
theorem dX3_be_117 : decode cX3_be 117 = .ok (.aload_n 0, 1) := dk_42 (dk_at dksX3_be_5 3 rfl rfl)
theorem dX3_be_118 : decode cX3_be 118 = .ok (.aload_n 1, 1) := dk_43 (dk_at dksX3_be_5 4 rfl rfl)
theorem dX3_be_119 : decode cX3_be 119 = .ok (.getfield 73, 3) := dk_180 0 73 (dk_at dksX3_be_5 5 rfl rfl)
theorem dX3_be_122 : decode cX3_be 122 = .ok (.putfield 73, 3) := dk_181 0 73 (dk_at dksX3_be_5 8 rfl rfl)
theorem dX3_be_125 : decode cX3_be 125 = .ok (.aload_n 0, 1) := dk_42 (dk_at dksX3_be_5 11 rfl rfl)
theorem dX3_be_126 : decode cX3_be 126 = .ok (.aload_n 1, 1) := dk_43 (dk_at dksX3_be_5 12 rfl rfl)
theorem dX3_be_127 : decode cX3_be 127 = .ok (.getfield 76, 3) := dk_180 0 76 (dk_at dksX3_be_5 13 rfl rfl)
theorem dX3_be_130 : decode cX3_be 130 = .ok (.putfield 76, 3) := dk_181 0 76 (dk_at dksX3_be_5 16 rfl rfl)
theorem dX3_be_133 : decode cX3_be 133 = .ok (.aload_n 0, 1) := dk_42 (dk_at dksX3_be_5 19 rfl rfl)
theorem dX3_be_134 : decode cX3_be 134 = .ok (.aload_n 1, 1) := dk_43 (dk_at dksX3_be_5 20 rfl rfl)
theorem dX3_be_135 : decode cX3_be 135 = .ok (.getfield 43, 3) := dk_180 0 43 (dk_at dksX3_be_5 21 rfl rfl)
theorem dX3_be_138 : decode cX3_be 138 = .ok (.putfield 43, 3) := dk_181 0 43 (dk_at dksX3_be_6 0 rfl rfl)
theorem dX3_be_141 : decode cX3_be 141 = .ok (.aload_n 0, 1) := dk_42 (dk_at dksX3_be_6 3 rfl rfl)
theorem dX3_be_142 : decode cX3_be 142 = .ok (.aload_n 1, 1) := dk_43 (dk_at dksX3_be_6 4 rfl rfl)
theorem dX3_be_143 : decode cX3_be 143 = .ok (.getfield 46, 3) := dk_180 0 46 (dk_at dksX3_be_6 5 rfl rfl)
theorem dX3_be_146 : decode cX3_be 146 = .ok (.putfield 46, 3) := dk_181 0 46 (dk_at dksX3_be_6 8 rfl rfl)
theorem dX3_be_149 : decode cX3_be 149 = .ok (.aload_n 0, 1) := dk_42 (dk_at dksX3_be_6 11 rfl rfl)
theorem dX3_be_150 : decode cX3_be 150 = .ok (.aload_n 1, 1) := dk_43 (dk_at dksX3_be_6 12 rfl rfl)
theorem dX3_be_151 : decode cX3_be 151 = .ok (.getfield 49, 3) := dk_180 0 49 (dk_at dksX3_be_6 13 rfl rfl)
theorem dX3_be_154 : decode cX3_be 154 = .ok (.putfield 49, 3) := dk_181 0 49 (dk_at dksX3_be_6 16 rfl rfl)
theorem dX3_be_157 : decode cX3_be 157 = .ok (.aload_n 0, 1) := dk_42 (dk_at dksX3_be_6 19 rfl rfl)
theorem dX3_be_158 : decode cX3_be 158 = .ok (.aload_n 1, 1) := dk_43 (dk_at dksX3_be_6 20 rfl rfl)
theorem dX3_be_159 : decode cX3_be 159 = .ok (.getfield 79, 3) := dk_180 0 79 (dk_at dksX3_be_6 21 rfl rfl)
theorem dX3_be_162 : decode cX3_be 162 = .ok (.putfield 79, 3) := dk_181 0 79 (dk_at dksX3_be_7 0 rfl rfl)
theorem dX3_be_165 : decode cX3_be 165 = .ok (.return_, 1) := dk_177 (dk_at dksX3_be_7 3 rfl rfl)
abbrev cX3_luckOfAll : ByteArray := prog_9_method_14_code
def yX3_luckOfAll : MethodName := ⟨RX3, "luckOfAll", "()I"⟩
def dkwX3_luckOfAll_1 : List UInt8 := [184, 0, 162, 96, 60, 132, 2, 1, 167, 255, 230, 27, 172]
abbrev dktX3_luckOfAll_1 : List UInt8 := dkwX3_luckOfAll_1 ++ []
def dkwX3_luckOfAll_0 : List UInt8 := [3, 60, 3, 61, 28, 42, 180, 0, 54, 162, 0, 24, 27, 42, 180, 0, 11, 28, 50, 180, 0, 89]
abbrev dktX3_luckOfAll_0 : List UInt8 := dkwX3_luckOfAll_0 ++ dktX3_luckOfAll_1
theorem dksX3_luckOfAll_0 : cX3_luckOfAll.data.toList.drop 0 = dktX3_luckOfAll_0 := by decide +kernel
theorem dksX3_luckOfAll_1 : cX3_luckOfAll.data.toList.drop 22 = dktX3_luckOfAll_1 := dk_seg dksX3_luckOfAll_0 22 rfl rfl
theorem dX3_luckOfAll_0 : decode cX3_luckOfAll 0 = .ok (.iconst 0, 1) := dk_3 (dk_at dksX3_luckOfAll_0 0 rfl rfl)
theorem dX3_luckOfAll_1 : decode cX3_luckOfAll 1 = .ok (.istore_n 1, 1) := dk_60 (dk_at dksX3_luckOfAll_0 1 rfl rfl)
theorem dX3_luckOfAll_2 : decode cX3_luckOfAll 2 = .ok (.iconst 0, 1) := dk_3 (dk_at dksX3_luckOfAll_0 2 rfl rfl)
theorem dX3_luckOfAll_3 : decode cX3_luckOfAll 3 = .ok (.istore_n 2, 1) := dk_61 (dk_at dksX3_luckOfAll_0 3 rfl rfl)
theorem dX3_luckOfAll_4 : decode cX3_luckOfAll 4 = .ok (.iload_n 2, 1) := dk_28 (dk_at dksX3_luckOfAll_0 4 rfl rfl)
theorem dX3_luckOfAll_5 : decode cX3_luckOfAll 5 = .ok (.aload_n 0, 1) := dk_42 (dk_at dksX3_luckOfAll_0 5 rfl rfl)
theorem dX3_luckOfAll_6 : decode cX3_luckOfAll 6 = .ok (.getfield 54, 3) := dk_180 0 54 (dk_at dksX3_luckOfAll_0 6 rfl rfl)
theorem dX3_luckOfAll_9 : decode cX3_luckOfAll 9 = .ok (.if_icmp .ge 24, 3) := dk_162 0 24 (dk_at dksX3_luckOfAll_0 9 rfl rfl)
theorem dX3_luckOfAll_12 : decode cX3_luckOfAll 12 = .ok (.iload_n 1, 1) := dk_27 (dk_at dksX3_luckOfAll_0 12 rfl rfl)
theorem dX3_luckOfAll_13 : decode cX3_luckOfAll 13 = .ok (.aload_n 0, 1) := dk_42 (dk_at dksX3_luckOfAll_0 13 rfl rfl)
theorem dX3_luckOfAll_14 : decode cX3_luckOfAll 14 = .ok (.getfield 11, 3) := dk_180 0 11 (dk_at dksX3_luckOfAll_0 14 rfl rfl)
theorem dX3_luckOfAll_17 : decode cX3_luckOfAll 17 = .ok (.iload_n 2, 1) := dk_28 (dk_at dksX3_luckOfAll_0 17 rfl rfl)
theorem dX3_luckOfAll_18 : decode cX3_luckOfAll 18 = .ok (.aaload, 1) := dk_50 (dk_at dksX3_luckOfAll_0 18 rfl rfl)
theorem dX3_luckOfAll_19 : decode cX3_luckOfAll 19 = .ok (.getfield 89, 3) := dk_180 0 89 (dk_at dksX3_luckOfAll_0 19 rfl rfl)
theorem dX3_luckOfAll_22 : decode cX3_luckOfAll 22 = .ok (.invokestatic 162, 3) := dk_184 0 162 (dk_at dksX3_luckOfAll_1 0 rfl rfl)
theorem dX3_luckOfAll_25 : decode cX3_luckOfAll 25 = .ok (.iadd, 1) := dk_96 (dk_at dksX3_luckOfAll_1 3 rfl rfl)
theorem dX3_luckOfAll_26 : decode cX3_luckOfAll 26 = .ok (.istore_n 1, 1) := dk_60 (dk_at dksX3_luckOfAll_1 4 rfl rfl)
theorem dX3_luckOfAll_27 : decode cX3_luckOfAll 27 = .ok (.iinc 2 1, 3) := dk_132 2 1 (dk_at dksX3_luckOfAll_1 5 rfl rfl)
theorem dX3_luckOfAll_30 : decode cX3_luckOfAll 30 = .ok (.goto (-26), 3) := dk_167 255 230 (dk_at dksX3_luckOfAll_1 8 rfl rfl)
theorem dX3_luckOfAll_33 : decode cX3_luckOfAll 33 = .ok (.iload_n 1, 1) := dk_27 (dk_at dksX3_luckOfAll_1 11 rfl rfl)
theorem dX3_luckOfAll_34 : decode cX3_luckOfAll 34 = .ok (.ireturn, 1) := dk_172 (dk_at dksX3_luckOfAll_1 12 rfl rfl)
abbrev cX3_gain : ByteArray := prog_9_method_9_code
def yX3_gain : MethodName := ⟨RX3, "gain", "(II)I"⟩
def dkwX3_gain_1 : List UInt8 := [132, 4, 1, 167, 255, 236, 29, 172]
abbrev dktX3_gain_1 : List UInt8 := dkwX3_gain_1 ++ []
def dkwX3_gain_0 : List UInt8 := [3, 62, 3, 54, 4, 21, 4, 7, 162, 0, 20, 29, 42, 27, 28, 21, 4, 182, 0, 131, 96, 62]
abbrev dktX3_gain_0 : List UInt8 := dkwX3_gain_0 ++ dktX3_gain_1
theorem dksX3_gain_0 : cX3_gain.data.toList.drop 0 = dktX3_gain_0 := by decide +kernel
theorem dksX3_gain_1 : cX3_gain.data.toList.drop 22 = dktX3_gain_1 := dk_seg dksX3_gain_0 22 rfl rfl
theorem dX3_gain_0 : decode cX3_gain 0 = .ok (.iconst 0, 1) := dk_3 (dk_at dksX3_gain_0 0 rfl rfl)
theorem dX3_gain_1 : decode cX3_gain 1 = .ok (.istore_n 3, 1) := dk_62 (dk_at dksX3_gain_0 1 rfl rfl)
theorem dX3_gain_2 : decode cX3_gain 2 = .ok (.iconst 0, 1) := dk_3 (dk_at dksX3_gain_0 2 rfl rfl)
theorem dX3_gain_3 : decode cX3_gain 3 = .ok (.istore 4, 2) := dk_54 4 (dk_at dksX3_gain_0 3 rfl rfl)
theorem dX3_gain_5 : decode cX3_gain 5 = .ok (.iload 4, 2) := dk_21 4 (dk_at dksX3_gain_0 5 rfl rfl)
theorem dX3_gain_7 : decode cX3_gain 7 = .ok (.iconst 4, 1) := dk_7 (dk_at dksX3_gain_0 7 rfl rfl)
theorem dX3_gain_8 : decode cX3_gain 8 = .ok (.if_icmp .ge 20, 3) := dk_162 0 20 (dk_at dksX3_gain_0 8 rfl rfl)
theorem dX3_gain_11 : decode cX3_gain 11 = .ok (.iload_n 3, 1) := dk_29 (dk_at dksX3_gain_0 11 rfl rfl)
theorem dX3_gain_12 : decode cX3_gain 12 = .ok (.aload_n 0, 1) := dk_42 (dk_at dksX3_gain_0 12 rfl rfl)
theorem dX3_gain_13 : decode cX3_gain 13 = .ok (.iload_n 1, 1) := dk_27 (dk_at dksX3_gain_0 13 rfl rfl)
theorem dX3_gain_14 : decode cX3_gain 14 = .ok (.iload_n 2, 1) := dk_28 (dk_at dksX3_gain_0 14 rfl rfl)
theorem dX3_gain_15 : decode cX3_gain 15 = .ok (.iload 4, 2) := dk_21 4 (dk_at dksX3_gain_0 15 rfl rfl)
theorem dX3_gain_17 : decode cX3_gain 17 = .ok (.invokevirtual 131, 3) := dk_182 0 131 (dk_at dksX3_gain_0 17 rfl rfl)
theorem dX3_gain_20 : decode cX3_gain 20 = .ok (.iadd, 1) := dk_96 (dk_at dksX3_gain_0 20 rfl rfl)
theorem dX3_gain_21 : decode cX3_gain 21 = .ok (.istore_n 3, 1) := dk_62 (dk_at dksX3_gain_0 21 rfl rfl)
theorem dX3_gain_22 : decode cX3_gain 22 = .ok (.iinc 4 1, 3) := dk_132 4 1 (dk_at dksX3_gain_1 0 rfl rfl)
theorem dX3_gain_25 : decode cX3_gain 25 = .ok (.goto (-20), 3) := dk_167 255 236 (dk_at dksX3_gain_1 3 rfl rfl)
theorem dX3_gain_28 : decode cX3_gain 28 = .ok (.iload_n 3, 1) := dk_29 (dk_at dksX3_gain_1 6 rfl rfl)
theorem dX3_gain_29 : decode cX3_gain 29 = .ok (.ireturn, 1) := dk_172 (dk_at dksX3_gain_1 7 rfl rfl)
abbrev cX3_more : ByteArray := prog_9_method_8_code
def yX3_more : MethodName := ⟨RX3, "more", "(III)I"⟩
def dkwX3_more_2 : List UInt8 := [156, 0, 9, 21, 5, 116, 167, 0, 5, 21, 5, 172]
abbrev dktX3_more_2 : List UInt8 := dkwX3_more_2 ++ []
def dkwX3_more_1 : List UInt8 := [54, 4, 42, 27, 28, 29, 182, 0, 117, 21, 4, 184, 0, 121, 5, 108, 184, 0, 127, 54, 5, 21, 4]
abbrev dktX3_more_1 : List UInt8 := dkwX3_more_1 ++ dktX3_more_2
def dkwX3_more_0 : List UInt8 := [42, 180, 0, 19, 28, 50, 180, 0, 92, 29, 46, 42, 180, 0, 11, 27, 50, 180, 0, 89, 29, 46, 100]
abbrev dktX3_more_0 : List UInt8 := dkwX3_more_0 ++ dktX3_more_1
theorem dksX3_more_0 : cX3_more.data.toList.drop 0 = dktX3_more_0 := by decide +kernel
theorem dksX3_more_1 : cX3_more.data.toList.drop 23 = dktX3_more_1 := dk_seg dksX3_more_0 23 rfl rfl
theorem dksX3_more_2 : cX3_more.data.toList.drop 46 = dktX3_more_2 := dk_seg dksX3_more_1 23 rfl rfl
theorem dX3_more_0 : decode cX3_more 0 = .ok (.aload_n 0, 1) := dk_42 (dk_at dksX3_more_0 0 rfl rfl)
theorem dX3_more_1 : decode cX3_more 1 = .ok (.getfield 19, 3) := dk_180 0 19 (dk_at dksX3_more_0 1 rfl rfl)
theorem dX3_more_4 : decode cX3_more 4 = .ok (.iload_n 2, 1) := dk_28 (dk_at dksX3_more_0 4 rfl rfl)
theorem dX3_more_5 : decode cX3_more 5 = .ok (.aaload, 1) := dk_50 (dk_at dksX3_more_0 5 rfl rfl)
theorem dX3_more_6 : decode cX3_more 6 = .ok (.getfield 92, 3) := dk_180 0 92 (dk_at dksX3_more_0 6 rfl rfl)
theorem dX3_more_9 : decode cX3_more 9 = .ok (.iload_n 3, 1) := dk_29 (dk_at dksX3_more_0 9 rfl rfl)
theorem dX3_more_10 : decode cX3_more 10 = .ok (.iaload, 1) := dk_46 (dk_at dksX3_more_0 10 rfl rfl)
theorem dX3_more_11 : decode cX3_more 11 = .ok (.aload_n 0, 1) := dk_42 (dk_at dksX3_more_0 11 rfl rfl)
theorem dX3_more_12 : decode cX3_more 12 = .ok (.getfield 11, 3) := dk_180 0 11 (dk_at dksX3_more_0 12 rfl rfl)
theorem dX3_more_15 : decode cX3_more 15 = .ok (.iload_n 1, 1) := dk_27 (dk_at dksX3_more_0 15 rfl rfl)
theorem dX3_more_16 : decode cX3_more 16 = .ok (.aaload, 1) := dk_50 (dk_at dksX3_more_0 16 rfl rfl)
theorem dX3_more_17 : decode cX3_more 17 = .ok (.getfield 89, 3) := dk_180 0 89 (dk_at dksX3_more_0 17 rfl rfl)
theorem dX3_more_20 : decode cX3_more 20 = .ok (.iload_n 3, 1) := dk_29 (dk_at dksX3_more_0 20 rfl rfl)
theorem dX3_more_21 : decode cX3_more 21 = .ok (.iaload, 1) := dk_46 (dk_at dksX3_more_0 21 rfl rfl)
theorem dX3_more_22 : decode cX3_more 22 = .ok (.isub, 1) := dk_100 (dk_at dksX3_more_0 22 rfl rfl)
theorem dX3_more_23 : decode cX3_more 23 = .ok (.istore 4, 2) := dk_54 4 (dk_at dksX3_more_1 0 rfl rfl)
theorem dX3_more_25 : decode cX3_more 25 = .ok (.aload_n 0, 1) := dk_42 (dk_at dksX3_more_1 2 rfl rfl)
theorem dX3_more_26 : decode cX3_more 26 = .ok (.iload_n 1, 1) := dk_27 (dk_at dksX3_more_1 3 rfl rfl)
theorem dX3_more_27 : decode cX3_more 27 = .ok (.iload_n 2, 1) := dk_28 (dk_at dksX3_more_1 4 rfl rfl)
theorem dX3_more_28 : decode cX3_more 28 = .ok (.iload_n 3, 1) := dk_29 (dk_at dksX3_more_1 5 rfl rfl)
theorem dX3_more_29 : decode cX3_more 29 = .ok (.invokevirtual 117, 3) := dk_182 0 117 (dk_at dksX3_more_1 6 rfl rfl)
theorem dX3_more_32 : decode cX3_more 32 = .ok (.iload 4, 2) := dk_21 4 (dk_at dksX3_more_1 9 rfl rfl)
theorem dX3_more_34 : decode cX3_more 34 = .ok (.invokestatic 121, 3) := dk_184 0 121 (dk_at dksX3_more_1 11 rfl rfl)
theorem dX3_more_37 : decode cX3_more 37 = .ok (.iconst 2, 1) := dk_5 (dk_at dksX3_more_1 14 rfl rfl)
theorem dX3_more_38 : decode cX3_more 38 = .ok (.idiv, 1) := dk_108 (dk_at dksX3_more_1 15 rfl rfl)
theorem dX3_more_39 : decode cX3_more 39 = .ok (.invokestatic 127, 3) := dk_184 0 127 (dk_at dksX3_more_1 16 rfl rfl)
theorem dX3_more_42 : decode cX3_more 42 = .ok (.istore 5, 2) := dk_54 5 (dk_at dksX3_more_1 19 rfl rfl)
theorem dX3_more_44 : decode cX3_more 44 = .ok (.iload 4, 2) := dk_21 4 (dk_at dksX3_more_1 21 rfl rfl)
theorem dX3_more_46 : decode cX3_more 46 = .ok (.ifCond .ge 9, 3) := dk_156 0 9 (dk_at dksX3_more_2 0 rfl rfl)
theorem dX3_more_49 : decode cX3_more 49 = .ok (.iload 5, 2) := dk_21 5 (dk_at dksX3_more_2 3 rfl rfl)
theorem dX3_more_51 : decode cX3_more 51 = .ok (.ineg, 1) := dk_116 (dk_at dksX3_more_2 5 rfl rfl)
theorem dX3_more_52 : decode cX3_more 52 = .ok (.goto 5, 3) := dk_167 0 5 (dk_at dksX3_more_2 6 rfl rfl)
theorem dX3_more_55 : decode cX3_more 55 = .ok (.iload 5, 2) := dk_21 5 (dk_at dksX3_more_2 9 rfl rfl)
theorem dX3_more_57 : decode cX3_more 57 = .ok (.ireturn, 1) := dk_172 (dk_at dksX3_more_2 11 rfl rfl)
abbrev cX3_flowsBy : ByteArray := prog_9_method_5_code
def yX3_flowsBy : MethodName := ⟨RX3, "flowsBy", "(III)I"⟩
def dkwX3_flowsBy_2 : List UInt8 := [182, 0, 107, 96, 54, 4, 132, 5, 1, 167, 255, 225, 21, 4, 172]
abbrev dktX3_flowsBy_2 : List UInt8 := dkwX3_flowsBy_2 ++ []
def dkwX3_flowsBy_1 : List UInt8 := [21, 5, 42, 180, 0, 39, 162, 0, 28, 21, 4, 42, 180, 0, 25, 21, 5, 50, 42, 180, 0, 29]
abbrev dktX3_flowsBy_1 : List UInt8 := dkwX3_flowsBy_1 ++ dktX3_flowsBy_2
def dkwX3_flowsBy_0 : List UInt8 := [42, 180, 0, 39, 2, 160, 0, 6, 16, 10, 172, 42, 27, 28, 29, 182, 0, 103, 3, 54, 4, 3, 54, 5]
abbrev dktX3_flowsBy_0 : List UInt8 := dkwX3_flowsBy_0 ++ dktX3_flowsBy_1
theorem dksX3_flowsBy_0 : cX3_flowsBy.data.toList.drop 0 = dktX3_flowsBy_0 := by decide +kernel
theorem dksX3_flowsBy_1 : cX3_flowsBy.data.toList.drop 24 = dktX3_flowsBy_1 := dk_seg dksX3_flowsBy_0 24 rfl rfl
theorem dksX3_flowsBy_2 : cX3_flowsBy.data.toList.drop 46 = dktX3_flowsBy_2 := dk_seg dksX3_flowsBy_1 22 rfl rfl
theorem dX3_flowsBy_0 : decode cX3_flowsBy 0 = .ok (.aload_n 0, 1) := dk_42 (dk_at dksX3_flowsBy_0 0 rfl rfl)
theorem dX3_flowsBy_1 : decode cX3_flowsBy 1 = .ok (.getfield 39, 3) := dk_180 0 39 (dk_at dksX3_flowsBy_0 1 rfl rfl)
theorem dX3_flowsBy_4 : decode cX3_flowsBy 4 = .ok (.iconst (-1), 1) := dk_2 (dk_at dksX3_flowsBy_0 4 rfl rfl)
theorem dX3_flowsBy_5 : decode cX3_flowsBy 5 = .ok (.if_icmp .ne 6, 3) := dk_160 0 6 (dk_at dksX3_flowsBy_0 5 rfl rfl)
theorem dX3_flowsBy_8 : decode cX3_flowsBy 8 = .ok (.bipush 10, 2) := dk_16 10 (dk_at dksX3_flowsBy_0 8 rfl rfl)
theorem dX3_flowsBy_10 : decode cX3_flowsBy 10 = .ok (.ireturn, 1) := dk_172 (dk_at dksX3_flowsBy_0 10 rfl rfl)
theorem dX3_flowsBy_11 : decode cX3_flowsBy 11 = .ok (.aload_n 0, 1) := dk_42 (dk_at dksX3_flowsBy_0 11 rfl rfl)
theorem dX3_flowsBy_12 : decode cX3_flowsBy 12 = .ok (.iload_n 1, 1) := dk_27 (dk_at dksX3_flowsBy_0 12 rfl rfl)
theorem dX3_flowsBy_13 : decode cX3_flowsBy 13 = .ok (.iload_n 2, 1) := dk_28 (dk_at dksX3_flowsBy_0 13 rfl rfl)
theorem dX3_flowsBy_14 : decode cX3_flowsBy 14 = .ok (.iload_n 3, 1) := dk_29 (dk_at dksX3_flowsBy_0 14 rfl rfl)
theorem dX3_flowsBy_15 : decode cX3_flowsBy 15 = .ok (.invokevirtual 103, 3) := dk_182 0 103 (dk_at dksX3_flowsBy_0 15 rfl rfl)
theorem dX3_flowsBy_18 : decode cX3_flowsBy 18 = .ok (.iconst 0, 1) := dk_3 (dk_at dksX3_flowsBy_0 18 rfl rfl)
theorem dX3_flowsBy_19 : decode cX3_flowsBy 19 = .ok (.istore 4, 2) := dk_54 4 (dk_at dksX3_flowsBy_0 19 rfl rfl)
theorem dX3_flowsBy_21 : decode cX3_flowsBy 21 = .ok (.iconst 0, 1) := dk_3 (dk_at dksX3_flowsBy_0 21 rfl rfl)
theorem dX3_flowsBy_22 : decode cX3_flowsBy 22 = .ok (.istore 5, 2) := dk_54 5 (dk_at dksX3_flowsBy_0 22 rfl rfl)
theorem dX3_flowsBy_24 : decode cX3_flowsBy 24 = .ok (.iload 5, 2) := dk_21 5 (dk_at dksX3_flowsBy_1 0 rfl rfl)
theorem dX3_flowsBy_26 : decode cX3_flowsBy 26 = .ok (.aload_n 0, 1) := dk_42 (dk_at dksX3_flowsBy_1 2 rfl rfl)
theorem dX3_flowsBy_27 : decode cX3_flowsBy 27 = .ok (.getfield 39, 3) := dk_180 0 39 (dk_at dksX3_flowsBy_1 3 rfl rfl)
theorem dX3_flowsBy_30 : decode cX3_flowsBy 30 = .ok (.if_icmp .ge 28, 3) := dk_162 0 28 (dk_at dksX3_flowsBy_1 6 rfl rfl)
theorem dX3_flowsBy_33 : decode cX3_flowsBy 33 = .ok (.iload 4, 2) := dk_21 4 (dk_at dksX3_flowsBy_1 9 rfl rfl)
theorem dX3_flowsBy_35 : decode cX3_flowsBy 35 = .ok (.aload_n 0, 1) := dk_42 (dk_at dksX3_flowsBy_1 11 rfl rfl)
theorem dX3_flowsBy_36 : decode cX3_flowsBy 36 = .ok (.getfield 25, 3) := dk_180 0 25 (dk_at dksX3_flowsBy_1 12 rfl rfl)
theorem dX3_flowsBy_39 : decode cX3_flowsBy 39 = .ok (.iload 5, 2) := dk_21 5 (dk_at dksX3_flowsBy_1 15 rfl rfl)
theorem dX3_flowsBy_41 : decode cX3_flowsBy 41 = .ok (.aaload, 1) := dk_50 (dk_at dksX3_flowsBy_1 17 rfl rfl)
theorem dX3_flowsBy_42 : decode cX3_flowsBy 42 = .ok (.aload_n 0, 1) := dk_42 (dk_at dksX3_flowsBy_1 18 rfl rfl)
theorem dX3_flowsBy_43 : decode cX3_flowsBy 43 = .ok (.getfield 29, 3) := dk_180 0 29 (dk_at dksX3_flowsBy_1 19 rfl rfl)
theorem dX3_flowsBy_46 : decode cX3_flowsBy 46 = .ok (.invokevirtual 107, 3) := dk_182 0 107 (dk_at dksX3_flowsBy_2 0 rfl rfl)
theorem dX3_flowsBy_49 : decode cX3_flowsBy 49 = .ok (.iadd, 1) := dk_96 (dk_at dksX3_flowsBy_2 3 rfl rfl)
theorem dX3_flowsBy_50 : decode cX3_flowsBy 50 = .ok (.istore 4, 2) := dk_54 4 (dk_at dksX3_flowsBy_2 4 rfl rfl)
theorem dX3_flowsBy_52 : decode cX3_flowsBy 52 = .ok (.iinc 5 1, 3) := dk_132 5 1 (dk_at dksX3_flowsBy_2 6 rfl rfl)
theorem dX3_flowsBy_55 : decode cX3_flowsBy 55 = .ok (.goto (-31), 3) := dk_167 255 225 (dk_at dksX3_flowsBy_2 9 rfl rfl)
theorem dX3_flowsBy_58 : decode cX3_flowsBy 58 = .ok (.iload 4, 2) := dk_21 4 (dk_at dksX3_flowsBy_2 12 rfl rfl)
theorem dX3_flowsBy_60 : decode cX3_flowsBy 60 = .ok (.ireturn, 1) := dk_172 (dk_at dksX3_flowsBy_2 14 rfl rfl)
abbrev cX3_tells : ByteArray := prog_9_method_4_code
def yX3_tells : MethodName := ⟨RX3, "tells", "(III)V"⟩
def dkwX3_tells_6 : List UInt8 := [167, 0, 4, 3, 79, 177]
abbrev dktX3_tells_6 : List UInt8 := dkwX3_tells_6 ++ []
def dkwX3_tells_5 : List UInt8 := [160, 0, 7, 4, 167, 0, 4, 3, 79, 42, 180, 0, 29, 16, 9, 25, 5, 180, 0, 100, 153, 0, 7, 4]
abbrev dktX3_tells_5 : List UInt8 := dkwX3_tells_5 ++ dktX3_tells_6
def dkwX3_tells_4 : List UInt8 := [180, 0, 93, 153, 0, 7, 4, 167, 0, 4, 3, 79, 42, 180, 0, 29, 16, 8, 25, 5, 180, 0, 97, 27]
abbrev dktX3_tells_4 : List UInt8 := dkwX3_tells_4 ++ dktX3_tells_5
def dkwX3_tells_3 : List UInt8 := [42, 180, 0, 29, 16, 6, 25, 5, 180, 0, 92, 29, 46, 79, 42, 180, 0, 29, 16, 7, 25, 4]
abbrev dktX3_tells_3 : List UInt8 := dkwX3_tells_3 ++ dktX3_tells_4
def dkwX3_tells_2 : List UInt8 := [42, 180, 0, 29, 7, 25, 4, 180, 0, 86, 79, 42, 180, 0, 29, 8, 25, 4, 180, 0, 89, 29, 46, 79]
abbrev dktX3_tells_2 : List UInt8 := dkwX3_tells_2 ++ dktX3_tells_3
def dkwX3_tells_1 : List UInt8 := [180, 0, 29, 4, 28, 79, 42, 180, 0, 29, 5, 29, 79, 42, 180, 0, 29, 6, 25, 5, 180, 0, 83, 79]
abbrev dktX3_tells_1 : List UInt8 := dkwX3_tells_1 ++ dktX3_tells_2
def dkwX3_tells_0 : List UInt8 := [42, 180, 0, 11, 27, 50, 58, 4, 42, 180, 0, 19, 28, 50, 58, 5, 42, 180, 0, 29, 3, 27, 79, 42]
abbrev dktX3_tells_0 : List UInt8 := dkwX3_tells_0 ++ dktX3_tells_1
theorem dksX3_tells_0 : cX3_tells.data.toList.drop 0 = dktX3_tells_0 := by decide +kernel
theorem dksX3_tells_1 : cX3_tells.data.toList.drop 24 = dktX3_tells_1 := dk_seg dksX3_tells_0 24 rfl rfl
theorem dksX3_tells_2 : cX3_tells.data.toList.drop 48 = dktX3_tells_2 := dk_seg dksX3_tells_1 24 rfl rfl
theorem dksX3_tells_3 : cX3_tells.data.toList.drop 72 = dktX3_tells_3 := dk_seg dksX3_tells_2 24 rfl rfl
theorem dksX3_tells_4 : cX3_tells.data.toList.drop 94 = dktX3_tells_4 := dk_seg dksX3_tells_3 22 rfl rfl
theorem dksX3_tells_5 : cX3_tells.data.toList.drop 118 = dktX3_tells_5 := dk_seg dksX3_tells_4 24 rfl rfl
theorem dksX3_tells_6 : cX3_tells.data.toList.drop 142 = dktX3_tells_6 := dk_seg dksX3_tells_5 24 rfl rfl
theorem dX3_tells_0 : decode cX3_tells 0 = .ok (.aload_n 0, 1) := dk_42 (dk_at dksX3_tells_0 0 rfl rfl)
theorem dX3_tells_1 : decode cX3_tells 1 = .ok (.getfield 11, 3) := dk_180 0 11 (dk_at dksX3_tells_0 1 rfl rfl)
theorem dX3_tells_4 : decode cX3_tells 4 = .ok (.iload_n 1, 1) := dk_27 (dk_at dksX3_tells_0 4 rfl rfl)
theorem dX3_tells_5 : decode cX3_tells 5 = .ok (.aaload, 1) := dk_50 (dk_at dksX3_tells_0 5 rfl rfl)
theorem dX3_tells_6 : decode cX3_tells 6 = .ok (.astore 4, 2) := dk_58 4 (dk_at dksX3_tells_0 6 rfl rfl)
theorem dX3_tells_8 : decode cX3_tells 8 = .ok (.aload_n 0, 1) := dk_42 (dk_at dksX3_tells_0 8 rfl rfl)
theorem dX3_tells_9 : decode cX3_tells 9 = .ok (.getfield 19, 3) := dk_180 0 19 (dk_at dksX3_tells_0 9 rfl rfl)
theorem dX3_tells_12 : decode cX3_tells 12 = .ok (.iload_n 2, 1) := dk_28 (dk_at dksX3_tells_0 12 rfl rfl)
theorem dX3_tells_13 : decode cX3_tells 13 = .ok (.aaload, 1) := dk_50 (dk_at dksX3_tells_0 13 rfl rfl)
theorem dX3_tells_14 : decode cX3_tells 14 = .ok (.astore 5, 2) := dk_58 5 (dk_at dksX3_tells_0 14 rfl rfl)
theorem dX3_tells_16 : decode cX3_tells 16 = .ok (.aload_n 0, 1) := dk_42 (dk_at dksX3_tells_0 16 rfl rfl)
theorem dX3_tells_17 : decode cX3_tells 17 = .ok (.getfield 29, 3) := dk_180 0 29 (dk_at dksX3_tells_0 17 rfl rfl)
theorem dX3_tells_20 : decode cX3_tells 20 = .ok (.iconst 0, 1) := dk_3 (dk_at dksX3_tells_0 20 rfl rfl)
theorem dX3_tells_21 : decode cX3_tells 21 = .ok (.iload_n 1, 1) := dk_27 (dk_at dksX3_tells_0 21 rfl rfl)
theorem dX3_tells_22 : decode cX3_tells 22 = .ok (.iastore, 1) := dk_79 (dk_at dksX3_tells_0 22 rfl rfl)
theorem dX3_tells_23 : decode cX3_tells 23 = .ok (.aload_n 0, 1) := dk_42 (dk_at dksX3_tells_0 23 rfl rfl)
theorem dX3_tells_24 : decode cX3_tells 24 = .ok (.getfield 29, 3) := dk_180 0 29 (dk_at dksX3_tells_1 0 rfl rfl)
theorem dX3_tells_27 : decode cX3_tells 27 = .ok (.iconst 1, 1) := dk_4 (dk_at dksX3_tells_1 3 rfl rfl)
theorem dX3_tells_28 : decode cX3_tells 28 = .ok (.iload_n 2, 1) := dk_28 (dk_at dksX3_tells_1 4 rfl rfl)
theorem dX3_tells_29 : decode cX3_tells 29 = .ok (.iastore, 1) := dk_79 (dk_at dksX3_tells_1 5 rfl rfl)
theorem dX3_tells_30 : decode cX3_tells 30 = .ok (.aload_n 0, 1) := dk_42 (dk_at dksX3_tells_1 6 rfl rfl)
theorem dX3_tells_31 : decode cX3_tells 31 = .ok (.getfield 29, 3) := dk_180 0 29 (dk_at dksX3_tells_1 7 rfl rfl)
theorem dX3_tells_34 : decode cX3_tells 34 = .ok (.iconst 2, 1) := dk_5 (dk_at dksX3_tells_1 10 rfl rfl)
theorem dX3_tells_35 : decode cX3_tells 35 = .ok (.iload_n 3, 1) := dk_29 (dk_at dksX3_tells_1 11 rfl rfl)
theorem dX3_tells_36 : decode cX3_tells 36 = .ok (.iastore, 1) := dk_79 (dk_at dksX3_tells_1 12 rfl rfl)
theorem dX3_tells_37 : decode cX3_tells 37 = .ok (.aload_n 0, 1) := dk_42 (dk_at dksX3_tells_1 13 rfl rfl)
theorem dX3_tells_38 : decode cX3_tells 38 = .ok (.getfield 29, 3) := dk_180 0 29 (dk_at dksX3_tells_1 14 rfl rfl)
theorem dX3_tells_41 : decode cX3_tells 41 = .ok (.iconst 3, 1) := dk_6 (dk_at dksX3_tells_1 17 rfl rfl)
theorem dX3_tells_42 : decode cX3_tells 42 = .ok (.aload 5, 2) := dk_25 5 (dk_at dksX3_tells_1 18 rfl rfl)
theorem dX3_tells_44 : decode cX3_tells 44 = .ok (.getfield 83, 3) := dk_180 0 83 (dk_at dksX3_tells_1 20 rfl rfl)
theorem dX3_tells_47 : decode cX3_tells 47 = .ok (.iastore, 1) := dk_79 (dk_at dksX3_tells_1 23 rfl rfl)
theorem dX3_tells_48 : decode cX3_tells 48 = .ok (.aload_n 0, 1) := dk_42 (dk_at dksX3_tells_2 0 rfl rfl)
theorem dX3_tells_49 : decode cX3_tells 49 = .ok (.getfield 29, 3) := dk_180 0 29 (dk_at dksX3_tells_2 1 rfl rfl)
theorem dX3_tells_52 : decode cX3_tells 52 = .ok (.iconst 4, 1) := dk_7 (dk_at dksX3_tells_2 4 rfl rfl)
theorem dX3_tells_53 : decode cX3_tells 53 = .ok (.aload 4, 2) := dk_25 4 (dk_at dksX3_tells_2 5 rfl rfl)
theorem dX3_tells_55 : decode cX3_tells 55 = .ok (.getfield 86, 3) := dk_180 0 86 (dk_at dksX3_tells_2 7 rfl rfl)
theorem dX3_tells_58 : decode cX3_tells 58 = .ok (.iastore, 1) := dk_79 (dk_at dksX3_tells_2 10 rfl rfl)
theorem dX3_tells_59 : decode cX3_tells 59 = .ok (.aload_n 0, 1) := dk_42 (dk_at dksX3_tells_2 11 rfl rfl)
theorem dX3_tells_60 : decode cX3_tells 60 = .ok (.getfield 29, 3) := dk_180 0 29 (dk_at dksX3_tells_2 12 rfl rfl)
theorem dX3_tells_63 : decode cX3_tells 63 = .ok (.iconst 5, 1) := dk_8 (dk_at dksX3_tells_2 15 rfl rfl)
theorem dX3_tells_64 : decode cX3_tells 64 = .ok (.aload 4, 2) := dk_25 4 (dk_at dksX3_tells_2 16 rfl rfl)
theorem dX3_tells_66 : decode cX3_tells 66 = .ok (.getfield 89, 3) := dk_180 0 89 (dk_at dksX3_tells_2 18 rfl rfl)
theorem dX3_tells_69 : decode cX3_tells 69 = .ok (.iload_n 3, 1) := dk_29 (dk_at dksX3_tells_2 21 rfl rfl)
theorem dX3_tells_70 : decode cX3_tells 70 = .ok (.iaload, 1) := dk_46 (dk_at dksX3_tells_2 22 rfl rfl)
theorem dX3_tells_71 : decode cX3_tells 71 = .ok (.iastore, 1) := dk_79 (dk_at dksX3_tells_2 23 rfl rfl)
theorem dX3_tells_72 : decode cX3_tells 72 = .ok (.aload_n 0, 1) := dk_42 (dk_at dksX3_tells_3 0 rfl rfl)
theorem dX3_tells_73 : decode cX3_tells 73 = .ok (.getfield 29, 3) := dk_180 0 29 (dk_at dksX3_tells_3 1 rfl rfl)
theorem dX3_tells_76 : decode cX3_tells 76 = .ok (.bipush 6, 2) := dk_16 6 (dk_at dksX3_tells_3 4 rfl rfl)
theorem dX3_tells_78 : decode cX3_tells 78 = .ok (.aload 5, 2) := dk_25 5 (dk_at dksX3_tells_3 6 rfl rfl)
theorem dX3_tells_80 : decode cX3_tells 80 = .ok (.getfield 92, 3) := dk_180 0 92 (dk_at dksX3_tells_3 8 rfl rfl)
theorem dX3_tells_83 : decode cX3_tells 83 = .ok (.iload_n 3, 1) := dk_29 (dk_at dksX3_tells_3 11 rfl rfl)
theorem dX3_tells_84 : decode cX3_tells 84 = .ok (.iaload, 1) := dk_46 (dk_at dksX3_tells_3 12 rfl rfl)
theorem dX3_tells_85 : decode cX3_tells 85 = .ok (.iastore, 1) := dk_79 (dk_at dksX3_tells_3 13 rfl rfl)
theorem dX3_tells_86 : decode cX3_tells 86 = .ok (.aload_n 0, 1) := dk_42 (dk_at dksX3_tells_3 14 rfl rfl)
theorem dX3_tells_87 : decode cX3_tells 87 = .ok (.getfield 29, 3) := dk_180 0 29 (dk_at dksX3_tells_3 15 rfl rfl)
theorem dX3_tells_90 : decode cX3_tells 90 = .ok (.bipush 7, 2) := dk_16 7 (dk_at dksX3_tells_3 18 rfl rfl)
theorem dX3_tells_92 : decode cX3_tells 92 = .ok (.aload 4, 2) := dk_25 4 (dk_at dksX3_tells_3 20 rfl rfl)
theorem dX3_tells_94 : decode cX3_tells 94 = .ok (.getfield 93, 3) := dk_180 0 93 (dk_at dksX3_tells_4 0 rfl rfl)
theorem dX3_tells_97 : decode cX3_tells 97 = .ok (.ifCond .eq 7, 3) := dk_153 0 7 (dk_at dksX3_tells_4 3 rfl rfl)
theorem dX3_tells_100 : decode cX3_tells 100 = .ok (.iconst 1, 1) := dk_4 (dk_at dksX3_tells_4 6 rfl rfl)
theorem dX3_tells_101 : decode cX3_tells 101 = .ok (.goto 4, 3) := dk_167 0 4 (dk_at dksX3_tells_4 7 rfl rfl)
theorem dX3_tells_104 : decode cX3_tells 104 = .ok (.iconst 0, 1) := dk_3 (dk_at dksX3_tells_4 10 rfl rfl)
theorem dX3_tells_105 : decode cX3_tells 105 = .ok (.iastore, 1) := dk_79 (dk_at dksX3_tells_4 11 rfl rfl)
theorem dX3_tells_106 : decode cX3_tells 106 = .ok (.aload_n 0, 1) := dk_42 (dk_at dksX3_tells_4 12 rfl rfl)
theorem dX3_tells_107 : decode cX3_tells 107 = .ok (.getfield 29, 3) := dk_180 0 29 (dk_at dksX3_tells_4 13 rfl rfl)
theorem dX3_tells_110 : decode cX3_tells 110 = .ok (.bipush 8, 2) := dk_16 8 (dk_at dksX3_tells_4 16 rfl rfl)
theorem dX3_tells_112 : decode cX3_tells 112 = .ok (.aload 5, 2) := dk_25 5 (dk_at dksX3_tells_4 18 rfl rfl)
theorem dX3_tells_114 : decode cX3_tells 114 = .ok (.getfield 97, 3) := dk_180 0 97 (dk_at dksX3_tells_4 20 rfl rfl)
theorem dX3_tells_117 : decode cX3_tells 117 = .ok (.iload_n 1, 1) := dk_27 (dk_at dksX3_tells_4 23 rfl rfl)
theorem dX3_tells_118 : decode cX3_tells 118 = .ok (.if_icmp .ne 7, 3) := dk_160 0 7 (dk_at dksX3_tells_5 0 rfl rfl)
theorem dX3_tells_121 : decode cX3_tells 121 = .ok (.iconst 1, 1) := dk_4 (dk_at dksX3_tells_5 3 rfl rfl)
theorem dX3_tells_122 : decode cX3_tells 122 = .ok (.goto 4, 3) := dk_167 0 4 (dk_at dksX3_tells_5 4 rfl rfl)
theorem dX3_tells_125 : decode cX3_tells 125 = .ok (.iconst 0, 1) := dk_3 (dk_at dksX3_tells_5 7 rfl rfl)
theorem dX3_tells_126 : decode cX3_tells 126 = .ok (.iastore, 1) := dk_79 (dk_at dksX3_tells_5 8 rfl rfl)
theorem dX3_tells_127 : decode cX3_tells 127 = .ok (.aload_n 0, 1) := dk_42 (dk_at dksX3_tells_5 9 rfl rfl)
theorem dX3_tells_128 : decode cX3_tells 128 = .ok (.getfield 29, 3) := dk_180 0 29 (dk_at dksX3_tells_5 10 rfl rfl)
theorem dX3_tells_131 : decode cX3_tells 131 = .ok (.bipush 9, 2) := dk_16 9 (dk_at dksX3_tells_5 13 rfl rfl)
theorem dX3_tells_133 : decode cX3_tells 133 = .ok (.aload 5, 2) := dk_25 5 (dk_at dksX3_tells_5 15 rfl rfl)
theorem dX3_tells_135 : decode cX3_tells 135 = .ok (.getfield 100, 3) := dk_180 0 100 (dk_at dksX3_tells_5 17 rfl rfl)
theorem dX3_tells_138 : decode cX3_tells 138 = .ok (.ifCond .eq 7, 3) := dk_153 0 7 (dk_at dksX3_tells_5 20 rfl rfl)
theorem dX3_tells_141 : decode cX3_tells 141 = .ok (.iconst 1, 1) := dk_4 (dk_at dksX3_tells_5 23 rfl rfl)
theorem dX3_tells_142 : decode cX3_tells 142 = .ok (.goto 4, 3) := dk_167 0 4 (dk_at dksX3_tells_6 0 rfl rfl)
theorem dX3_tells_145 : decode cX3_tells 145 = .ok (.iconst 0, 1) := dk_3 (dk_at dksX3_tells_6 3 rfl rfl)
theorem dX3_tells_146 : decode cX3_tells 146 = .ok (.iastore, 1) := dk_79 (dk_at dksX3_tells_6 4 rfl rfl)
theorem dX3_tells_147 : decode cX3_tells 147 = .ok (.return_, 1) := dk_177 (dk_at dksX3_tells_6 5 rfl rfl)
abbrev cX3_weds : ByteArray := prog_9_method_11_code
def yX3_weds : MethodName := ⟨RX3, "weds", "(II)I"⟩
def dkwX3_weds_7 : List UInt8 := [180, 0, 86, 4, 96, 184, 0, 127, 181, 0, 86, 42, 27, 28, 21, 7, 182, 0, 143, 21, 7, 172]
abbrev dktX3_weds_7 : List UInt8 := dkwX3_weds_7 ++ []
def dkwX3_weds_6 : List UInt8 := [184, 0, 127, 181, 0, 83, 25, 4, 89, 180, 0, 140, 21, 6, 128, 181, 0, 140, 45, 16, 9, 45]
abbrev dktX3_weds_6 : List UInt8 := dkwX3_weds_6 ++ dktX3_weds_7
def dkwX3_weds_5 : List UInt8 := [46, 96, 54, 7, 132, 8, 1, 167, 255, 200, 25, 4, 16, 99, 25, 4, 180, 0, 83, 21, 5, 96]
abbrev dktX3_weds_5 : List UInt8 := dkwX3_weds_5 ++ dktX3_weds_6
def dkwX3_weds_4 : List UInt8 := [180, 0, 92, 21, 8, 92, 46, 42, 180, 0, 33, 21, 8, 46, 100, 79, 21, 7, 42, 180, 0, 33, 21, 8]
abbrev dktX3_weds_4 : List UInt8 := dkwX3_weds_4 ++ dktX3_weds_5
def dkwX3_weds_3 : List UInt8 := [162, 0, 56, 45, 180, 0, 89, 21, 8, 92, 46, 42, 180, 0, 33, 21, 8, 46, 96, 79, 25, 4]
abbrev dktX3_weds_3 : List UInt8 := dkwX3_weds_3 ++ dktX3_weds_4
def dkwX3_weds_2 : List UInt8 := [21, 8, 42, 27, 28, 21, 8, 182, 0, 131, 79, 132, 8, 1, 167, 255, 232, 3, 54, 8, 21, 8, 7]
abbrev dktX3_weds_2 : List UInt8 := dkwX3_weds_2 ++ dktX3_weds_3
def dkwX3_weds_1 : List UInt8 := [27, 28, 182, 0, 137, 54, 6, 3, 54, 7, 3, 54, 8, 21, 8, 7, 162, 0, 24, 42, 180, 0, 33]
abbrev dktX3_weds_1 : List UInt8 := dkwX3_weds_1 ++ dktX3_weds_2
def dkwX3_weds_0 : List UInt8 := [42, 180, 0, 11, 27, 50, 78, 42, 180, 0, 19, 28, 50, 58, 4, 42, 27, 28, 182, 0, 134, 54, 5, 42]
abbrev dktX3_weds_0 : List UInt8 := dkwX3_weds_0 ++ dktX3_weds_1
theorem dksX3_weds_0 : cX3_weds.data.toList.drop 0 = dktX3_weds_0 := by decide +kernel
theorem dksX3_weds_1 : cX3_weds.data.toList.drop 24 = dktX3_weds_1 := dk_seg dksX3_weds_0 24 rfl rfl
theorem dksX3_weds_2 : cX3_weds.data.toList.drop 47 = dktX3_weds_2 := dk_seg dksX3_weds_1 23 rfl rfl
theorem dksX3_weds_3 : cX3_weds.data.toList.drop 70 = dktX3_weds_3 := dk_seg dksX3_weds_2 23 rfl rfl
theorem dksX3_weds_4 : cX3_weds.data.toList.drop 92 = dktX3_weds_4 := dk_seg dksX3_weds_3 22 rfl rfl
theorem dksX3_weds_5 : cX3_weds.data.toList.drop 116 = dktX3_weds_5 := dk_seg dksX3_weds_4 24 rfl rfl
theorem dksX3_weds_6 : cX3_weds.data.toList.drop 138 = dktX3_weds_6 := dk_seg dksX3_weds_5 22 rfl rfl
theorem dksX3_weds_7 : cX3_weds.data.toList.drop 160 = dktX3_weds_7 := dk_seg dksX3_weds_6 22 rfl rfl
theorem dX3_weds_0 : decode cX3_weds 0 = .ok (.aload_n 0, 1) := dk_42 (dk_at dksX3_weds_0 0 rfl rfl)
theorem dX3_weds_1 : decode cX3_weds 1 = .ok (.getfield 11, 3) := dk_180 0 11 (dk_at dksX3_weds_0 1 rfl rfl)
theorem dX3_weds_4 : decode cX3_weds 4 = .ok (.iload_n 1, 1) := dk_27 (dk_at dksX3_weds_0 4 rfl rfl)
theorem dX3_weds_5 : decode cX3_weds 5 = .ok (.aaload, 1) := dk_50 (dk_at dksX3_weds_0 5 rfl rfl)
theorem dX3_weds_6 : decode cX3_weds 6 = .ok (.astore_n 3, 1) := dk_78 (dk_at dksX3_weds_0 6 rfl rfl)
theorem dX3_weds_7 : decode cX3_weds 7 = .ok (.aload_n 0, 1) := dk_42 (dk_at dksX3_weds_0 7 rfl rfl)
theorem dX3_weds_8 : decode cX3_weds 8 = .ok (.getfield 19, 3) := dk_180 0 19 (dk_at dksX3_weds_0 8 rfl rfl)
theorem dX3_weds_11 : decode cX3_weds 11 = .ok (.iload_n 2, 1) := dk_28 (dk_at dksX3_weds_0 11 rfl rfl)
theorem dX3_weds_12 : decode cX3_weds 12 = .ok (.aaload, 1) := dk_50 (dk_at dksX3_weds_0 12 rfl rfl)
theorem dX3_weds_13 : decode cX3_weds 13 = .ok (.astore 4, 2) := dk_58 4 (dk_at dksX3_weds_0 13 rfl rfl)
theorem dX3_weds_15 : decode cX3_weds 15 = .ok (.aload_n 0, 1) := dk_42 (dk_at dksX3_weds_0 15 rfl rfl)
theorem dX3_weds_16 : decode cX3_weds 16 = .ok (.iload_n 1, 1) := dk_27 (dk_at dksX3_weds_0 16 rfl rfl)
theorem dX3_weds_17 : decode cX3_weds 17 = .ok (.iload_n 2, 1) := dk_28 (dk_at dksX3_weds_0 17 rfl rfl)
theorem dX3_weds_18 : decode cX3_weds 18 = .ok (.invokevirtual 134, 3) := dk_182 0 134 (dk_at dksX3_weds_0 18 rfl rfl)
theorem dX3_weds_21 : decode cX3_weds 21 = .ok (.istore 5, 2) := dk_54 5 (dk_at dksX3_weds_0 21 rfl rfl)
theorem dX3_weds_23 : decode cX3_weds 23 = .ok (.aload_n 0, 1) := dk_42 (dk_at dksX3_weds_0 23 rfl rfl)
theorem dX3_weds_24 : decode cX3_weds 24 = .ok (.iload_n 1, 1) := dk_27 (dk_at dksX3_weds_1 0 rfl rfl)
theorem dX3_weds_25 : decode cX3_weds 25 = .ok (.iload_n 2, 1) := dk_28 (dk_at dksX3_weds_1 1 rfl rfl)
theorem dX3_weds_26 : decode cX3_weds 26 = .ok (.invokevirtual 137, 3) := dk_182 0 137 (dk_at dksX3_weds_1 2 rfl rfl)
theorem dX3_weds_29 : decode cX3_weds 29 = .ok (.istore 6, 2) := dk_54 6 (dk_at dksX3_weds_1 5 rfl rfl)
theorem dX3_weds_31 : decode cX3_weds 31 = .ok (.iconst 0, 1) := dk_3 (dk_at dksX3_weds_1 7 rfl rfl)
theorem dX3_weds_32 : decode cX3_weds 32 = .ok (.istore 7, 2) := dk_54 7 (dk_at dksX3_weds_1 8 rfl rfl)
theorem dX3_weds_34 : decode cX3_weds 34 = .ok (.iconst 0, 1) := dk_3 (dk_at dksX3_weds_1 10 rfl rfl)
theorem dX3_weds_35 : decode cX3_weds 35 = .ok (.istore 8, 2) := dk_54 8 (dk_at dksX3_weds_1 11 rfl rfl)
theorem dX3_weds_37 : decode cX3_weds 37 = .ok (.iload 8, 2) := dk_21 8 (dk_at dksX3_weds_1 13 rfl rfl)
theorem dX3_weds_39 : decode cX3_weds 39 = .ok (.iconst 4, 1) := dk_7 (dk_at dksX3_weds_1 15 rfl rfl)
theorem dX3_weds_40 : decode cX3_weds 40 = .ok (.if_icmp .ge 24, 3) := dk_162 0 24 (dk_at dksX3_weds_1 16 rfl rfl)
theorem dX3_weds_43 : decode cX3_weds 43 = .ok (.aload_n 0, 1) := dk_42 (dk_at dksX3_weds_1 19 rfl rfl)
theorem dX3_weds_44 : decode cX3_weds 44 = .ok (.getfield 33, 3) := dk_180 0 33 (dk_at dksX3_weds_1 20 rfl rfl)
theorem dX3_weds_47 : decode cX3_weds 47 = .ok (.iload 8, 2) := dk_21 8 (dk_at dksX3_weds_2 0 rfl rfl)
theorem dX3_weds_49 : decode cX3_weds 49 = .ok (.aload_n 0, 1) := dk_42 (dk_at dksX3_weds_2 2 rfl rfl)
theorem dX3_weds_50 : decode cX3_weds 50 = .ok (.iload_n 1, 1) := dk_27 (dk_at dksX3_weds_2 3 rfl rfl)
theorem dX3_weds_51 : decode cX3_weds 51 = .ok (.iload_n 2, 1) := dk_28 (dk_at dksX3_weds_2 4 rfl rfl)
theorem dX3_weds_52 : decode cX3_weds 52 = .ok (.iload 8, 2) := dk_21 8 (dk_at dksX3_weds_2 5 rfl rfl)
theorem dX3_weds_54 : decode cX3_weds 54 = .ok (.invokevirtual 131, 3) := dk_182 0 131 (dk_at dksX3_weds_2 7 rfl rfl)
theorem dX3_weds_57 : decode cX3_weds 57 = .ok (.iastore, 1) := dk_79 (dk_at dksX3_weds_2 10 rfl rfl)
theorem dX3_weds_58 : decode cX3_weds 58 = .ok (.iinc 8 1, 3) := dk_132 8 1 (dk_at dksX3_weds_2 11 rfl rfl)
theorem dX3_weds_61 : decode cX3_weds 61 = .ok (.goto (-24), 3) := dk_167 255 232 (dk_at dksX3_weds_2 14 rfl rfl)
theorem dX3_weds_64 : decode cX3_weds 64 = .ok (.iconst 0, 1) := dk_3 (dk_at dksX3_weds_2 17 rfl rfl)
theorem dX3_weds_65 : decode cX3_weds 65 = .ok (.istore 8, 2) := dk_54 8 (dk_at dksX3_weds_2 18 rfl rfl)
theorem dX3_weds_67 : decode cX3_weds 67 = .ok (.iload 8, 2) := dk_21 8 (dk_at dksX3_weds_2 20 rfl rfl)
theorem dX3_weds_69 : decode cX3_weds 69 = .ok (.iconst 4, 1) := dk_7 (dk_at dksX3_weds_2 22 rfl rfl)
theorem dX3_weds_70 : decode cX3_weds 70 = .ok (.if_icmp .ge 56, 3) := dk_162 0 56 (dk_at dksX3_weds_3 0 rfl rfl)
theorem dX3_weds_73 : decode cX3_weds 73 = .ok (.aload_n 3, 1) := dk_45 (dk_at dksX3_weds_3 3 rfl rfl)
theorem dX3_weds_74 : decode cX3_weds 74 = .ok (.getfield 89, 3) := dk_180 0 89 (dk_at dksX3_weds_3 4 rfl rfl)
theorem dX3_weds_77 : decode cX3_weds 77 = .ok (.iload 8, 2) := dk_21 8 (dk_at dksX3_weds_3 7 rfl rfl)
theorem dX3_weds_79 : decode cX3_weds 79 = .ok (.dup2, 1) := dk_92 (dk_at dksX3_weds_3 9 rfl rfl)
theorem dX3_weds_80 : decode cX3_weds 80 = .ok (.iaload, 1) := dk_46 (dk_at dksX3_weds_3 10 rfl rfl)
theorem dX3_weds_81 : decode cX3_weds 81 = .ok (.aload_n 0, 1) := dk_42 (dk_at dksX3_weds_3 11 rfl rfl)
theorem dX3_weds_82 : decode cX3_weds 82 = .ok (.getfield 33, 3) := dk_180 0 33 (dk_at dksX3_weds_3 12 rfl rfl)
theorem dX3_weds_85 : decode cX3_weds 85 = .ok (.iload 8, 2) := dk_21 8 (dk_at dksX3_weds_3 15 rfl rfl)
theorem dX3_weds_87 : decode cX3_weds 87 = .ok (.iaload, 1) := dk_46 (dk_at dksX3_weds_3 17 rfl rfl)
theorem dX3_weds_88 : decode cX3_weds 88 = .ok (.iadd, 1) := dk_96 (dk_at dksX3_weds_3 18 rfl rfl)
theorem dX3_weds_89 : decode cX3_weds 89 = .ok (.iastore, 1) := dk_79 (dk_at dksX3_weds_3 19 rfl rfl)
theorem dX3_weds_90 : decode cX3_weds 90 = .ok (.aload 4, 2) := dk_25 4 (dk_at dksX3_weds_3 20 rfl rfl)
theorem dX3_weds_92 : decode cX3_weds 92 = .ok (.getfield 92, 3) := dk_180 0 92 (dk_at dksX3_weds_4 0 rfl rfl)
theorem dX3_weds_95 : decode cX3_weds 95 = .ok (.iload 8, 2) := dk_21 8 (dk_at dksX3_weds_4 3 rfl rfl)
theorem dX3_weds_97 : decode cX3_weds 97 = .ok (.dup2, 1) := dk_92 (dk_at dksX3_weds_4 5 rfl rfl)
theorem dX3_weds_98 : decode cX3_weds 98 = .ok (.iaload, 1) := dk_46 (dk_at dksX3_weds_4 6 rfl rfl)
theorem dX3_weds_99 : decode cX3_weds 99 = .ok (.aload_n 0, 1) := dk_42 (dk_at dksX3_weds_4 7 rfl rfl)
theorem dX3_weds_100 : decode cX3_weds 100 = .ok (.getfield 33, 3) := dk_180 0 33 (dk_at dksX3_weds_4 8 rfl rfl)
theorem dX3_weds_103 : decode cX3_weds 103 = .ok (.iload 8, 2) := dk_21 8 (dk_at dksX3_weds_4 11 rfl rfl)
theorem dX3_weds_105 : decode cX3_weds 105 = .ok (.iaload, 1) := dk_46 (dk_at dksX3_weds_4 13 rfl rfl)
theorem dX3_weds_106 : decode cX3_weds 106 = .ok (.isub, 1) := dk_100 (dk_at dksX3_weds_4 14 rfl rfl)
theorem dX3_weds_107 : decode cX3_weds 107 = .ok (.iastore, 1) := dk_79 (dk_at dksX3_weds_4 15 rfl rfl)
theorem dX3_weds_108 : decode cX3_weds 108 = .ok (.iload 7, 2) := dk_21 7 (dk_at dksX3_weds_4 16 rfl rfl)
theorem dX3_weds_110 : decode cX3_weds 110 = .ok (.aload_n 0, 1) := dk_42 (dk_at dksX3_weds_4 18 rfl rfl)
theorem dX3_weds_111 : decode cX3_weds 111 = .ok (.getfield 33, 3) := dk_180 0 33 (dk_at dksX3_weds_4 19 rfl rfl)
theorem dX3_weds_114 : decode cX3_weds 114 = .ok (.iload 8, 2) := dk_21 8 (dk_at dksX3_weds_4 22 rfl rfl)
theorem dX3_weds_116 : decode cX3_weds 116 = .ok (.iaload, 1) := dk_46 (dk_at dksX3_weds_5 0 rfl rfl)
theorem dX3_weds_117 : decode cX3_weds 117 = .ok (.iadd, 1) := dk_96 (dk_at dksX3_weds_5 1 rfl rfl)
theorem dX3_weds_118 : decode cX3_weds 118 = .ok (.istore 7, 2) := dk_54 7 (dk_at dksX3_weds_5 2 rfl rfl)
theorem dX3_weds_120 : decode cX3_weds 120 = .ok (.iinc 8 1, 3) := dk_132 8 1 (dk_at dksX3_weds_5 4 rfl rfl)
theorem dX3_weds_123 : decode cX3_weds 123 = .ok (.goto (-56), 3) := dk_167 255 200 (dk_at dksX3_weds_5 7 rfl rfl)
theorem dX3_weds_126 : decode cX3_weds 126 = .ok (.aload 4, 2) := dk_25 4 (dk_at dksX3_weds_5 10 rfl rfl)
theorem dX3_weds_128 : decode cX3_weds 128 = .ok (.bipush 99, 2) := dk_16 99 (dk_at dksX3_weds_5 12 rfl rfl)
theorem dX3_weds_130 : decode cX3_weds 130 = .ok (.aload 4, 2) := dk_25 4 (dk_at dksX3_weds_5 14 rfl rfl)
theorem dX3_weds_132 : decode cX3_weds 132 = .ok (.getfield 83, 3) := dk_180 0 83 (dk_at dksX3_weds_5 16 rfl rfl)
theorem dX3_weds_135 : decode cX3_weds 135 = .ok (.iload 5, 2) := dk_21 5 (dk_at dksX3_weds_5 19 rfl rfl)
theorem dX3_weds_137 : decode cX3_weds 137 = .ok (.iadd, 1) := dk_96 (dk_at dksX3_weds_5 21 rfl rfl)
theorem dX3_weds_138 : decode cX3_weds 138 = .ok (.invokestatic 127, 3) := dk_184 0 127 (dk_at dksX3_weds_6 0 rfl rfl)
theorem dX3_weds_141 : decode cX3_weds 141 = .ok (.putfield 83, 3) := dk_181 0 83 (dk_at dksX3_weds_6 3 rfl rfl)
theorem dX3_weds_144 : decode cX3_weds 144 = .ok (.aload 4, 2) := dk_25 4 (dk_at dksX3_weds_6 6 rfl rfl)
theorem dX3_weds_146 : decode cX3_weds 146 = .ok (.dup, 1) := dk_89 (dk_at dksX3_weds_6 8 rfl rfl)
theorem dX3_weds_147 : decode cX3_weds 147 = .ok (.getfield 140, 3) := dk_180 0 140 (dk_at dksX3_weds_6 9 rfl rfl)
theorem dX3_weds_150 : decode cX3_weds 150 = .ok (.iload 6, 2) := dk_21 6 (dk_at dksX3_weds_6 12 rfl rfl)
theorem dX3_weds_152 : decode cX3_weds 152 = .ok (.ior, 1) := dk_128 (dk_at dksX3_weds_6 14 rfl rfl)
theorem dX3_weds_153 : decode cX3_weds 153 = .ok (.putfield 140, 3) := dk_181 0 140 (dk_at dksX3_weds_6 15 rfl rfl)
theorem dX3_weds_156 : decode cX3_weds 156 = .ok (.aload_n 3, 1) := dk_45 (dk_at dksX3_weds_6 18 rfl rfl)
theorem dX3_weds_157 : decode cX3_weds 157 = .ok (.bipush 9, 2) := dk_16 9 (dk_at dksX3_weds_6 19 rfl rfl)
theorem dX3_weds_159 : decode cX3_weds 159 = .ok (.aload_n 3, 1) := dk_45 (dk_at dksX3_weds_6 21 rfl rfl)
theorem dX3_weds_160 : decode cX3_weds 160 = .ok (.getfield 86, 3) := dk_180 0 86 (dk_at dksX3_weds_7 0 rfl rfl)
theorem dX3_weds_163 : decode cX3_weds 163 = .ok (.iconst 1, 1) := dk_4 (dk_at dksX3_weds_7 3 rfl rfl)
theorem dX3_weds_164 : decode cX3_weds 164 = .ok (.iadd, 1) := dk_96 (dk_at dksX3_weds_7 4 rfl rfl)
theorem dX3_weds_165 : decode cX3_weds 165 = .ok (.invokestatic 127, 3) := dk_184 0 127 (dk_at dksX3_weds_7 5 rfl rfl)
theorem dX3_weds_168 : decode cX3_weds 168 = .ok (.putfield 86, 3) := dk_181 0 86 (dk_at dksX3_weds_7 8 rfl rfl)
theorem dX3_weds_171 : decode cX3_weds 171 = .ok (.aload_n 0, 1) := dk_42 (dk_at dksX3_weds_7 11 rfl rfl)
theorem dX3_weds_172 : decode cX3_weds 172 = .ok (.iload_n 1, 1) := dk_27 (dk_at dksX3_weds_7 12 rfl rfl)
theorem dX3_weds_173 : decode cX3_weds 173 = .ok (.iload_n 2, 1) := dk_28 (dk_at dksX3_weds_7 13 rfl rfl)
theorem dX3_weds_174 : decode cX3_weds 174 = .ok (.iload 7, 2) := dk_21 7 (dk_at dksX3_weds_7 14 rfl rfl)
theorem dX3_weds_176 : decode cX3_weds 176 = .ok (.invokevirtual 143, 3) := dk_182 0 143 (dk_at dksX3_weds_7 16 rfl rfl)
theorem dX3_weds_179 : decode cX3_weds 179 = .ok (.iload 7, 2) := dk_21 7 (dk_at dksX3_weds_7 19 rfl rfl)
theorem dX3_weds_181 : decode cX3_weds 181 = .ok (.ireturn, 1) := dk_172 (dk_at dksX3_weds_7 21 rfl rfl)
abbrev cX3_wearsBy : ByteArray := prog_9_method_6_code
def yX3_wearsBy : MethodName := ⟨RX3, "wearsBy", "(II)I"⟩
def dkwX3_wearsBy_1 : List UInt8 := [180, 0, 25, 21, 4, 50, 42, 180, 0, 29, 182, 0, 110, 96, 62, 132, 4, 1, 167, 255, 227, 29, 172]
abbrev dktX3_wearsBy_1 : List UInt8 := dkwX3_wearsBy_1 ++ []
def dkwX3_wearsBy_0 : List UInt8 := [42, 27, 28, 3, 182, 0, 103, 4, 62, 3, 54, 4, 21, 4, 42, 180, 0, 39, 162, 0, 26, 29, 42]
abbrev dktX3_wearsBy_0 : List UInt8 := dkwX3_wearsBy_0 ++ dktX3_wearsBy_1
theorem dksX3_wearsBy_0 : cX3_wearsBy.data.toList.drop 0 = dktX3_wearsBy_0 := by decide +kernel
theorem dksX3_wearsBy_1 : cX3_wearsBy.data.toList.drop 23 = dktX3_wearsBy_1 := dk_seg dksX3_wearsBy_0 23 rfl rfl
theorem dX3_wearsBy_0 : decode cX3_wearsBy 0 = .ok (.aload_n 0, 1) := dk_42 (dk_at dksX3_wearsBy_0 0 rfl rfl)
theorem dX3_wearsBy_1 : decode cX3_wearsBy 1 = .ok (.iload_n 1, 1) := dk_27 (dk_at dksX3_wearsBy_0 1 rfl rfl)
theorem dX3_wearsBy_2 : decode cX3_wearsBy 2 = .ok (.iload_n 2, 1) := dk_28 (dk_at dksX3_wearsBy_0 2 rfl rfl)
theorem dX3_wearsBy_3 : decode cX3_wearsBy 3 = .ok (.iconst 0, 1) := dk_3 (dk_at dksX3_wearsBy_0 3 rfl rfl)
theorem dX3_wearsBy_4 : decode cX3_wearsBy 4 = .ok (.invokevirtual 103, 3) := dk_182 0 103 (dk_at dksX3_wearsBy_0 4 rfl rfl)
theorem dX3_wearsBy_7 : decode cX3_wearsBy 7 = .ok (.iconst 1, 1) := dk_4 (dk_at dksX3_wearsBy_0 7 rfl rfl)
theorem dX3_wearsBy_8 : decode cX3_wearsBy 8 = .ok (.istore_n 3, 1) := dk_62 (dk_at dksX3_wearsBy_0 8 rfl rfl)
theorem dX3_wearsBy_9 : decode cX3_wearsBy 9 = .ok (.iconst 0, 1) := dk_3 (dk_at dksX3_wearsBy_0 9 rfl rfl)
theorem dX3_wearsBy_10 : decode cX3_wearsBy 10 = .ok (.istore 4, 2) := dk_54 4 (dk_at dksX3_wearsBy_0 10 rfl rfl)
theorem dX3_wearsBy_12 : decode cX3_wearsBy 12 = .ok (.iload 4, 2) := dk_21 4 (dk_at dksX3_wearsBy_0 12 rfl rfl)
theorem dX3_wearsBy_14 : decode cX3_wearsBy 14 = .ok (.aload_n 0, 1) := dk_42 (dk_at dksX3_wearsBy_0 14 rfl rfl)
theorem dX3_wearsBy_15 : decode cX3_wearsBy 15 = .ok (.getfield 39, 3) := dk_180 0 39 (dk_at dksX3_wearsBy_0 15 rfl rfl)
theorem dX3_wearsBy_18 : decode cX3_wearsBy 18 = .ok (.if_icmp .ge 26, 3) := dk_162 0 26 (dk_at dksX3_wearsBy_0 18 rfl rfl)
theorem dX3_wearsBy_21 : decode cX3_wearsBy 21 = .ok (.iload_n 3, 1) := dk_29 (dk_at dksX3_wearsBy_0 21 rfl rfl)
theorem dX3_wearsBy_22 : decode cX3_wearsBy 22 = .ok (.aload_n 0, 1) := dk_42 (dk_at dksX3_wearsBy_0 22 rfl rfl)
theorem dX3_wearsBy_23 : decode cX3_wearsBy 23 = .ok (.getfield 25, 3) := dk_180 0 25 (dk_at dksX3_wearsBy_1 0 rfl rfl)
theorem dX3_wearsBy_26 : decode cX3_wearsBy 26 = .ok (.iload 4, 2) := dk_21 4 (dk_at dksX3_wearsBy_1 3 rfl rfl)
theorem dX3_wearsBy_28 : decode cX3_wearsBy 28 = .ok (.aaload, 1) := dk_50 (dk_at dksX3_wearsBy_1 5 rfl rfl)
theorem dX3_wearsBy_29 : decode cX3_wearsBy 29 = .ok (.aload_n 0, 1) := dk_42 (dk_at dksX3_wearsBy_1 6 rfl rfl)
theorem dX3_wearsBy_30 : decode cX3_wearsBy 30 = .ok (.getfield 29, 3) := dk_180 0 29 (dk_at dksX3_wearsBy_1 7 rfl rfl)
theorem dX3_wearsBy_33 : decode cX3_wearsBy 33 = .ok (.invokevirtual 110, 3) := dk_182 0 110 (dk_at dksX3_wearsBy_1 10 rfl rfl)
theorem dX3_wearsBy_36 : decode cX3_wearsBy 36 = .ok (.iadd, 1) := dk_96 (dk_at dksX3_wearsBy_1 13 rfl rfl)
theorem dX3_wearsBy_37 : decode cX3_wearsBy 37 = .ok (.istore_n 3, 1) := dk_62 (dk_at dksX3_wearsBy_1 14 rfl rfl)
theorem dX3_wearsBy_38 : decode cX3_wearsBy 38 = .ok (.iinc 4 1, 3) := dk_132 4 1 (dk_at dksX3_wearsBy_1 15 rfl rfl)
theorem dX3_wearsBy_41 : decode cX3_wearsBy 41 = .ok (.goto (-29), 3) := dk_167 255 227 (dk_at dksX3_wearsBy_1 18 rfl rfl)
theorem dX3_wearsBy_44 : decode cX3_wearsBy 44 = .ok (.iload_n 3, 1) := dk_29 (dk_at dksX3_wearsBy_1 21 rfl rfl)
theorem dX3_wearsBy_45 : decode cX3_wearsBy 45 = .ok (.ireturn, 1) := dk_172 (dk_at dksX3_wearsBy_1 22 rfl rfl)
abbrev cX3_sticks : ByteArray := prog_9_method_7_code
def yX3_sticks : MethodName := ⟨RX3, "sticks", "(II)Z"⟩
def dkwX3_sticks_1 : List UInt8 := [180, 0, 25, 21, 4, 50, 42, 180, 0, 29, 182, 0, 113, 128, 62, 132, 4, 1, 167, 255, 227, 29, 172]
abbrev dktX3_sticks_1 : List UInt8 := dkwX3_sticks_1 ++ []
def dkwX3_sticks_0 : List UInt8 := [42, 27, 28, 3, 182, 0, 103, 3, 62, 3, 54, 4, 21, 4, 42, 180, 0, 39, 162, 0, 26, 29, 42]
abbrev dktX3_sticks_0 : List UInt8 := dkwX3_sticks_0 ++ dktX3_sticks_1
theorem dksX3_sticks_0 : cX3_sticks.data.toList.drop 0 = dktX3_sticks_0 := by decide +kernel
theorem dksX3_sticks_1 : cX3_sticks.data.toList.drop 23 = dktX3_sticks_1 := dk_seg dksX3_sticks_0 23 rfl rfl
theorem dX3_sticks_0 : decode cX3_sticks 0 = .ok (.aload_n 0, 1) := dk_42 (dk_at dksX3_sticks_0 0 rfl rfl)
theorem dX3_sticks_1 : decode cX3_sticks 1 = .ok (.iload_n 1, 1) := dk_27 (dk_at dksX3_sticks_0 1 rfl rfl)
theorem dX3_sticks_2 : decode cX3_sticks 2 = .ok (.iload_n 2, 1) := dk_28 (dk_at dksX3_sticks_0 2 rfl rfl)
theorem dX3_sticks_3 : decode cX3_sticks 3 = .ok (.iconst 0, 1) := dk_3 (dk_at dksX3_sticks_0 3 rfl rfl)
theorem dX3_sticks_4 : decode cX3_sticks 4 = .ok (.invokevirtual 103, 3) := dk_182 0 103 (dk_at dksX3_sticks_0 4 rfl rfl)
theorem dX3_sticks_7 : decode cX3_sticks 7 = .ok (.iconst 0, 1) := dk_3 (dk_at dksX3_sticks_0 7 rfl rfl)
theorem dX3_sticks_8 : decode cX3_sticks 8 = .ok (.istore_n 3, 1) := dk_62 (dk_at dksX3_sticks_0 8 rfl rfl)
theorem dX3_sticks_9 : decode cX3_sticks 9 = .ok (.iconst 0, 1) := dk_3 (dk_at dksX3_sticks_0 9 rfl rfl)
theorem dX3_sticks_10 : decode cX3_sticks 10 = .ok (.istore 4, 2) := dk_54 4 (dk_at dksX3_sticks_0 10 rfl rfl)
theorem dX3_sticks_12 : decode cX3_sticks 12 = .ok (.iload 4, 2) := dk_21 4 (dk_at dksX3_sticks_0 12 rfl rfl)
theorem dX3_sticks_14 : decode cX3_sticks 14 = .ok (.aload_n 0, 1) := dk_42 (dk_at dksX3_sticks_0 14 rfl rfl)
theorem dX3_sticks_15 : decode cX3_sticks 15 = .ok (.getfield 39, 3) := dk_180 0 39 (dk_at dksX3_sticks_0 15 rfl rfl)
theorem dX3_sticks_18 : decode cX3_sticks 18 = .ok (.if_icmp .ge 26, 3) := dk_162 0 26 (dk_at dksX3_sticks_0 18 rfl rfl)
theorem dX3_sticks_21 : decode cX3_sticks 21 = .ok (.iload_n 3, 1) := dk_29 (dk_at dksX3_sticks_0 21 rfl rfl)
theorem dX3_sticks_22 : decode cX3_sticks 22 = .ok (.aload_n 0, 1) := dk_42 (dk_at dksX3_sticks_0 22 rfl rfl)
theorem dX3_sticks_23 : decode cX3_sticks 23 = .ok (.getfield 25, 3) := dk_180 0 25 (dk_at dksX3_sticks_1 0 rfl rfl)
theorem dX3_sticks_26 : decode cX3_sticks 26 = .ok (.iload 4, 2) := dk_21 4 (dk_at dksX3_sticks_1 3 rfl rfl)
theorem dX3_sticks_28 : decode cX3_sticks 28 = .ok (.aaload, 1) := dk_50 (dk_at dksX3_sticks_1 5 rfl rfl)
theorem dX3_sticks_29 : decode cX3_sticks 29 = .ok (.aload_n 0, 1) := dk_42 (dk_at dksX3_sticks_1 6 rfl rfl)
theorem dX3_sticks_30 : decode cX3_sticks 30 = .ok (.getfield 29, 3) := dk_180 0 29 (dk_at dksX3_sticks_1 7 rfl rfl)
theorem dX3_sticks_33 : decode cX3_sticks 33 = .ok (.invokevirtual 113, 3) := dk_182 0 113 (dk_at dksX3_sticks_1 10 rfl rfl)
theorem dX3_sticks_36 : decode cX3_sticks 36 = .ok (.ior, 1) := dk_128 (dk_at dksX3_sticks_1 13 rfl rfl)
theorem dX3_sticks_37 : decode cX3_sticks 37 = .ok (.istore_n 3, 1) := dk_62 (dk_at dksX3_sticks_1 14 rfl rfl)
theorem dX3_sticks_38 : decode cX3_sticks 38 = .ok (.iinc 4 1, 3) := dk_132 4 1 (dk_at dksX3_sticks_1 15 rfl rfl)
theorem dX3_sticks_41 : decode cX3_sticks 41 = .ok (.goto (-29), 3) := dk_167 255 227 (dk_at dksX3_sticks_1 18 rfl rfl)
theorem dX3_sticks_44 : decode cX3_sticks 44 = .ok (.iload_n 3, 1) := dk_29 (dk_at dksX3_sticks_1 21 rfl rfl)
theorem dX3_sticks_45 : decode cX3_sticks 45 = .ok (.ireturn, 1) := dk_172 (dk_at dksX3_sticks_1 22 rfl rfl)
abbrev cX3_writes : ByteArray := prog_9_method_10_code
def yX3_writes : MethodName := ⟨RX3, "writes", "(III)V"⟩
def dkwX3_writes_2 : List UInt8 := [21, 4, 6, 96, 29, 79, 42, 89, 180, 0, 79, 4, 96, 181, 0, 79, 177]
abbrev dktX3_writes_2 : List UInt8 := dkwX3_writes_2 ++ []
def dkwX3_writes_1 : List UInt8 := [180, 0, 36, 21, 4, 4, 96, 27, 79, 42, 180, 0, 36, 21, 4, 5, 96, 28, 79, 42, 180, 0, 36]
abbrev dktX3_writes_1 : List UInt8 := dkwX3_writes_1 ++ dktX3_writes_2
def dkwX3_writes_0 : List UInt8 := [42, 180, 0, 79, 16, 60, 112, 7, 104, 54, 4, 42, 180, 0, 36, 21, 4, 42, 180, 0, 76, 79, 42]
abbrev dktX3_writes_0 : List UInt8 := dkwX3_writes_0 ++ dktX3_writes_1
theorem dksX3_writes_0 : cX3_writes.data.toList.drop 0 = dktX3_writes_0 := by decide +kernel
theorem dksX3_writes_1 : cX3_writes.data.toList.drop 23 = dktX3_writes_1 := dk_seg dksX3_writes_0 23 rfl rfl
theorem dksX3_writes_2 : cX3_writes.data.toList.drop 46 = dktX3_writes_2 := dk_seg dksX3_writes_1 23 rfl rfl
theorem dX3_writes_0 : decode cX3_writes 0 = .ok (.aload_n 0, 1) := dk_42 (dk_at dksX3_writes_0 0 rfl rfl)
theorem dX3_writes_1 : decode cX3_writes 1 = .ok (.getfield 79, 3) := dk_180 0 79 (dk_at dksX3_writes_0 1 rfl rfl)
theorem dX3_writes_4 : decode cX3_writes 4 = .ok (.bipush 60, 2) := dk_16 60 (dk_at dksX3_writes_0 4 rfl rfl)
theorem dX3_writes_6 : decode cX3_writes 6 = .ok (.irem, 1) := dk_112 (dk_at dksX3_writes_0 6 rfl rfl)
theorem dX3_writes_7 : decode cX3_writes 7 = .ok (.iconst 4, 1) := dk_7 (dk_at dksX3_writes_0 7 rfl rfl)
theorem dX3_writes_8 : decode cX3_writes 8 = .ok (.imul, 1) := dk_104 (dk_at dksX3_writes_0 8 rfl rfl)
theorem dX3_writes_9 : decode cX3_writes 9 = .ok (.istore 4, 2) := dk_54 4 (dk_at dksX3_writes_0 9 rfl rfl)
theorem dX3_writes_11 : decode cX3_writes 11 = .ok (.aload_n 0, 1) := dk_42 (dk_at dksX3_writes_0 11 rfl rfl)
theorem dX3_writes_12 : decode cX3_writes 12 = .ok (.getfield 36, 3) := dk_180 0 36 (dk_at dksX3_writes_0 12 rfl rfl)
theorem dX3_writes_15 : decode cX3_writes 15 = .ok (.iload 4, 2) := dk_21 4 (dk_at dksX3_writes_0 15 rfl rfl)
theorem dX3_writes_17 : decode cX3_writes 17 = .ok (.aload_n 0, 1) := dk_42 (dk_at dksX3_writes_0 17 rfl rfl)
theorem dX3_writes_18 : decode cX3_writes 18 = .ok (.getfield 76, 3) := dk_180 0 76 (dk_at dksX3_writes_0 18 rfl rfl)
theorem dX3_writes_21 : decode cX3_writes 21 = .ok (.iastore, 1) := dk_79 (dk_at dksX3_writes_0 21 rfl rfl)
theorem dX3_writes_22 : decode cX3_writes 22 = .ok (.aload_n 0, 1) := dk_42 (dk_at dksX3_writes_0 22 rfl rfl)
theorem dX3_writes_23 : decode cX3_writes 23 = .ok (.getfield 36, 3) := dk_180 0 36 (dk_at dksX3_writes_1 0 rfl rfl)
theorem dX3_writes_26 : decode cX3_writes 26 = .ok (.iload 4, 2) := dk_21 4 (dk_at dksX3_writes_1 3 rfl rfl)
theorem dX3_writes_28 : decode cX3_writes 28 = .ok (.iconst 1, 1) := dk_4 (dk_at dksX3_writes_1 5 rfl rfl)
theorem dX3_writes_29 : decode cX3_writes 29 = .ok (.iadd, 1) := dk_96 (dk_at dksX3_writes_1 6 rfl rfl)
theorem dX3_writes_30 : decode cX3_writes 30 = .ok (.iload_n 1, 1) := dk_27 (dk_at dksX3_writes_1 7 rfl rfl)
theorem dX3_writes_31 : decode cX3_writes 31 = .ok (.iastore, 1) := dk_79 (dk_at dksX3_writes_1 8 rfl rfl)
theorem dX3_writes_32 : decode cX3_writes 32 = .ok (.aload_n 0, 1) := dk_42 (dk_at dksX3_writes_1 9 rfl rfl)
theorem dX3_writes_33 : decode cX3_writes 33 = .ok (.getfield 36, 3) := dk_180 0 36 (dk_at dksX3_writes_1 10 rfl rfl)
theorem dX3_writes_36 : decode cX3_writes 36 = .ok (.iload 4, 2) := dk_21 4 (dk_at dksX3_writes_1 13 rfl rfl)
theorem dX3_writes_38 : decode cX3_writes 38 = .ok (.iconst 2, 1) := dk_5 (dk_at dksX3_writes_1 15 rfl rfl)
theorem dX3_writes_39 : decode cX3_writes 39 = .ok (.iadd, 1) := dk_96 (dk_at dksX3_writes_1 16 rfl rfl)
theorem dX3_writes_40 : decode cX3_writes 40 = .ok (.iload_n 2, 1) := dk_28 (dk_at dksX3_writes_1 17 rfl rfl)
theorem dX3_writes_41 : decode cX3_writes 41 = .ok (.iastore, 1) := dk_79 (dk_at dksX3_writes_1 18 rfl rfl)
theorem dX3_writes_42 : decode cX3_writes 42 = .ok (.aload_n 0, 1) := dk_42 (dk_at dksX3_writes_1 19 rfl rfl)
theorem dX3_writes_43 : decode cX3_writes 43 = .ok (.getfield 36, 3) := dk_180 0 36 (dk_at dksX3_writes_1 20 rfl rfl)
theorem dX3_writes_46 : decode cX3_writes 46 = .ok (.iload 4, 2) := dk_21 4 (dk_at dksX3_writes_2 0 rfl rfl)
theorem dX3_writes_48 : decode cX3_writes 48 = .ok (.iconst 3, 1) := dk_6 (dk_at dksX3_writes_2 2 rfl rfl)
theorem dX3_writes_49 : decode cX3_writes 49 = .ok (.iadd, 1) := dk_96 (dk_at dksX3_writes_2 3 rfl rfl)
theorem dX3_writes_50 : decode cX3_writes 50 = .ok (.iload_n 3, 1) := dk_29 (dk_at dksX3_writes_2 4 rfl rfl)
theorem dX3_writes_51 : decode cX3_writes 51 = .ok (.iastore, 1) := dk_79 (dk_at dksX3_writes_2 5 rfl rfl)
theorem dX3_writes_52 : decode cX3_writes 52 = .ok (.aload_n 0, 1) := dk_42 (dk_at dksX3_writes_2 6 rfl rfl)
theorem dX3_writes_53 : decode cX3_writes 53 = .ok (.dup, 1) := dk_89 (dk_at dksX3_writes_2 7 rfl rfl)
theorem dX3_writes_54 : decode cX3_writes 54 = .ok (.getfield 79, 3) := dk_180 0 79 (dk_at dksX3_writes_2 8 rfl rfl)
theorem dX3_writes_57 : decode cX3_writes 57 = .ok (.iconst 1, 1) := dk_4 (dk_at dksX3_writes_2 11 rfl rfl)
theorem dX3_writes_58 : decode cX3_writes 58 = .ok (.iadd, 1) := dk_96 (dk_at dksX3_writes_2 12 rfl rfl)
theorem dX3_writes_59 : decode cX3_writes 59 = .ok (.putfield 79, 3) := dk_181 0 79 (dk_at dksX3_writes_2 13 rfl rfl)
theorem dX3_writes_62 : decode cX3_writes 62 = .ok (.return_, 1) := dk_177 (dk_at dksX3_writes_2 16 rfl rfl)
abbrev cX3_passes : ByteArray := prog_9_method_13_code
def yX3_passes : MethodName := ⟨RX3, "passes", "()I"⟩
def dkwX3_passes_5 : List UInt8 := [181, 0, 76, 27, 172]
abbrev dktX3_passes_5 : List UInt8 := dkwX3_passes_5 ++ []
def dkwX3_passes_4 : List UInt8 := [180, 0, 89, 3, 46, 4, 96, 184, 0, 127, 79, 42, 17, 39, 15, 42, 180, 0, 76, 4, 96, 184, 0, 127]
abbrev dktX3_passes_4 : List UInt8 := dkwX3_passes_4 ++ dktX3_passes_5
def dkwX3_passes_3 : List UInt8 := [180, 0, 46, 162, 0, 32, 42, 180, 0, 11, 28, 50, 180, 0, 89, 3, 16, 99, 42, 180, 0, 11, 28, 50]
abbrev dktX3_passes_3 : List UInt8 := dkwX3_passes_3 ++ dktX3_passes_4
def dkwX3_passes_2 : List UInt8 := [50, 28, 181, 0, 150, 42, 28, 29, 182, 0, 159, 54, 4, 132, 1, 1, 42, 16, 100, 182, 0, 153, 42]
abbrev dktX3_passes_2 : List UInt8 := dkwX3_passes_2 ++ dktX3_passes_3
def dkwX3_passes_1 : List UInt8 := [61, 42, 42, 180, 0, 61, 182, 0, 153, 62, 42, 28, 29, 182, 0, 156, 153, 0, 24, 42, 180, 0, 19, 29]
abbrev dktX3_passes_1 : List UInt8 := dkwX3_passes_1 ++ dktX3_passes_2
def dkwX3_passes_0 : List UInt8 := [3, 60, 42, 180, 0, 54, 158, 0, 100, 42, 180, 0, 61, 158, 0, 93, 42, 42, 180, 0, 54, 182, 0, 153]
abbrev dktX3_passes_0 : List UInt8 := dkwX3_passes_0 ++ dktX3_passes_1
theorem dksX3_passes_0 : cX3_passes.data.toList.drop 0 = dktX3_passes_0 := by decide +kernel
theorem dksX3_passes_1 : cX3_passes.data.toList.drop 24 = dktX3_passes_1 := dk_seg dksX3_passes_0 24 rfl rfl
theorem dksX3_passes_2 : cX3_passes.data.toList.drop 48 = dktX3_passes_2 := dk_seg dksX3_passes_1 24 rfl rfl
theorem dksX3_passes_3 : cX3_passes.data.toList.drop 71 = dktX3_passes_3 := dk_seg dksX3_passes_2 23 rfl rfl
theorem dksX3_passes_4 : cX3_passes.data.toList.drop 95 = dktX3_passes_4 := dk_seg dksX3_passes_3 24 rfl rfl
theorem dksX3_passes_5 : cX3_passes.data.toList.drop 119 = dktX3_passes_5 := dk_seg dksX3_passes_4 24 rfl rfl
theorem dX3_passes_0 : decode cX3_passes 0 = .ok (.iconst 0, 1) := dk_3 (dk_at dksX3_passes_0 0 rfl rfl)
theorem dX3_passes_1 : decode cX3_passes 1 = .ok (.istore_n 1, 1) := dk_60 (dk_at dksX3_passes_0 1 rfl rfl)
theorem dX3_passes_2 : decode cX3_passes 2 = .ok (.aload_n 0, 1) := dk_42 (dk_at dksX3_passes_0 2 rfl rfl)
theorem dX3_passes_3 : decode cX3_passes 3 = .ok (.getfield 54, 3) := dk_180 0 54 (dk_at dksX3_passes_0 3 rfl rfl)
theorem dX3_passes_6 : decode cX3_passes 6 = .ok (.ifCond .le 100, 3) := dk_158 0 100 (dk_at dksX3_passes_0 6 rfl rfl)
theorem dX3_passes_9 : decode cX3_passes 9 = .ok (.aload_n 0, 1) := dk_42 (dk_at dksX3_passes_0 9 rfl rfl)
theorem dX3_passes_10 : decode cX3_passes 10 = .ok (.getfield 61, 3) := dk_180 0 61 (dk_at dksX3_passes_0 10 rfl rfl)
theorem dX3_passes_13 : decode cX3_passes 13 = .ok (.ifCond .le 93, 3) := dk_158 0 93 (dk_at dksX3_passes_0 13 rfl rfl)
theorem dX3_passes_16 : decode cX3_passes 16 = .ok (.aload_n 0, 1) := dk_42 (dk_at dksX3_passes_0 16 rfl rfl)
theorem dX3_passes_17 : decode cX3_passes 17 = .ok (.aload_n 0, 1) := dk_42 (dk_at dksX3_passes_0 17 rfl rfl)
theorem dX3_passes_18 : decode cX3_passes 18 = .ok (.getfield 54, 3) := dk_180 0 54 (dk_at dksX3_passes_0 18 rfl rfl)
theorem dX3_passes_21 : decode cX3_passes 21 = .ok (.invokevirtual 153, 3) := dk_182 0 153 (dk_at dksX3_passes_0 21 rfl rfl)
theorem dX3_passes_24 : decode cX3_passes 24 = .ok (.istore_n 2, 1) := dk_61 (dk_at dksX3_passes_1 0 rfl rfl)
theorem dX3_passes_25 : decode cX3_passes 25 = .ok (.aload_n 0, 1) := dk_42 (dk_at dksX3_passes_1 1 rfl rfl)
theorem dX3_passes_26 : decode cX3_passes 26 = .ok (.aload_n 0, 1) := dk_42 (dk_at dksX3_passes_1 2 rfl rfl)
theorem dX3_passes_27 : decode cX3_passes 27 = .ok (.getfield 61, 3) := dk_180 0 61 (dk_at dksX3_passes_1 3 rfl rfl)
theorem dX3_passes_30 : decode cX3_passes 30 = .ok (.invokevirtual 153, 3) := dk_182 0 153 (dk_at dksX3_passes_1 6 rfl rfl)
theorem dX3_passes_33 : decode cX3_passes 33 = .ok (.istore_n 3, 1) := dk_62 (dk_at dksX3_passes_1 9 rfl rfl)
theorem dX3_passes_34 : decode cX3_passes 34 = .ok (.aload_n 0, 1) := dk_42 (dk_at dksX3_passes_1 10 rfl rfl)
theorem dX3_passes_35 : decode cX3_passes 35 = .ok (.iload_n 2, 1) := dk_28 (dk_at dksX3_passes_1 11 rfl rfl)
theorem dX3_passes_36 : decode cX3_passes 36 = .ok (.iload_n 3, 1) := dk_29 (dk_at dksX3_passes_1 12 rfl rfl)
theorem dX3_passes_37 : decode cX3_passes 37 = .ok (.invokevirtual 156, 3) := dk_182 0 156 (dk_at dksX3_passes_1 13 rfl rfl)
theorem dX3_passes_40 : decode cX3_passes 40 = .ok (.ifCond .eq 24, 3) := dk_153 0 24 (dk_at dksX3_passes_1 16 rfl rfl)
theorem dX3_passes_43 : decode cX3_passes 43 = .ok (.aload_n 0, 1) := dk_42 (dk_at dksX3_passes_1 19 rfl rfl)
theorem dX3_passes_44 : decode cX3_passes 44 = .ok (.getfield 19, 3) := dk_180 0 19 (dk_at dksX3_passes_1 20 rfl rfl)
theorem dX3_passes_47 : decode cX3_passes 47 = .ok (.iload_n 3, 1) := dk_29 (dk_at dksX3_passes_1 23 rfl rfl)
theorem dX3_passes_48 : decode cX3_passes 48 = .ok (.aaload, 1) := dk_50 (dk_at dksX3_passes_2 0 rfl rfl)
theorem dX3_passes_49 : decode cX3_passes 49 = .ok (.iload_n 2, 1) := dk_28 (dk_at dksX3_passes_2 1 rfl rfl)
theorem dX3_passes_50 : decode cX3_passes 50 = .ok (.putfield 150, 3) := dk_181 0 150 (dk_at dksX3_passes_2 2 rfl rfl)
theorem dX3_passes_53 : decode cX3_passes 53 = .ok (.aload_n 0, 1) := dk_42 (dk_at dksX3_passes_2 5 rfl rfl)
theorem dX3_passes_54 : decode cX3_passes 54 = .ok (.iload_n 2, 1) := dk_28 (dk_at dksX3_passes_2 6 rfl rfl)
theorem dX3_passes_55 : decode cX3_passes 55 = .ok (.iload_n 3, 1) := dk_29 (dk_at dksX3_passes_2 7 rfl rfl)
theorem dX3_passes_56 : decode cX3_passes 56 = .ok (.invokevirtual 159, 3) := dk_182 0 159 (dk_at dksX3_passes_2 8 rfl rfl)
theorem dX3_passes_59 : decode cX3_passes 59 = .ok (.istore 4, 2) := dk_54 4 (dk_at dksX3_passes_2 11 rfl rfl)
theorem dX3_passes_61 : decode cX3_passes 61 = .ok (.iinc 1 1, 3) := dk_132 1 1 (dk_at dksX3_passes_2 13 rfl rfl)
theorem dX3_passes_64 : decode cX3_passes 64 = .ok (.aload_n 0, 1) := dk_42 (dk_at dksX3_passes_2 16 rfl rfl)
theorem dX3_passes_65 : decode cX3_passes 65 = .ok (.bipush 100, 2) := dk_16 100 (dk_at dksX3_passes_2 17 rfl rfl)
theorem dX3_passes_67 : decode cX3_passes 67 = .ok (.invokevirtual 153, 3) := dk_182 0 153 (dk_at dksX3_passes_2 19 rfl rfl)
theorem dX3_passes_70 : decode cX3_passes 70 = .ok (.aload_n 0, 1) := dk_42 (dk_at dksX3_passes_2 22 rfl rfl)
theorem dX3_passes_71 : decode cX3_passes 71 = .ok (.getfield 46, 3) := dk_180 0 46 (dk_at dksX3_passes_3 0 rfl rfl)
theorem dX3_passes_74 : decode cX3_passes 74 = .ok (.if_icmp .ge 32, 3) := dk_162 0 32 (dk_at dksX3_passes_3 3 rfl rfl)
theorem dX3_passes_77 : decode cX3_passes 77 = .ok (.aload_n 0, 1) := dk_42 (dk_at dksX3_passes_3 6 rfl rfl)
theorem dX3_passes_78 : decode cX3_passes 78 = .ok (.getfield 11, 3) := dk_180 0 11 (dk_at dksX3_passes_3 7 rfl rfl)
theorem dX3_passes_81 : decode cX3_passes 81 = .ok (.iload_n 2, 1) := dk_28 (dk_at dksX3_passes_3 10 rfl rfl)
theorem dX3_passes_82 : decode cX3_passes 82 = .ok (.aaload, 1) := dk_50 (dk_at dksX3_passes_3 11 rfl rfl)
theorem dX3_passes_83 : decode cX3_passes 83 = .ok (.getfield 89, 3) := dk_180 0 89 (dk_at dksX3_passes_3 12 rfl rfl)
theorem dX3_passes_86 : decode cX3_passes 86 = .ok (.iconst 0, 1) := dk_3 (dk_at dksX3_passes_3 15 rfl rfl)
theorem dX3_passes_87 : decode cX3_passes 87 = .ok (.bipush 99, 2) := dk_16 99 (dk_at dksX3_passes_3 16 rfl rfl)
theorem dX3_passes_89 : decode cX3_passes 89 = .ok (.aload_n 0, 1) := dk_42 (dk_at dksX3_passes_3 18 rfl rfl)
theorem dX3_passes_90 : decode cX3_passes 90 = .ok (.getfield 11, 3) := dk_180 0 11 (dk_at dksX3_passes_3 19 rfl rfl)
theorem dX3_passes_93 : decode cX3_passes 93 = .ok (.iload_n 2, 1) := dk_28 (dk_at dksX3_passes_3 22 rfl rfl)
theorem dX3_passes_94 : decode cX3_passes 94 = .ok (.aaload, 1) := dk_50 (dk_at dksX3_passes_3 23 rfl rfl)
theorem dX3_passes_95 : decode cX3_passes 95 = .ok (.getfield 89, 3) := dk_180 0 89 (dk_at dksX3_passes_4 0 rfl rfl)
theorem dX3_passes_98 : decode cX3_passes 98 = .ok (.iconst 0, 1) := dk_3 (dk_at dksX3_passes_4 3 rfl rfl)
theorem dX3_passes_99 : decode cX3_passes 99 = .ok (.iaload, 1) := dk_46 (dk_at dksX3_passes_4 4 rfl rfl)
theorem dX3_passes_100 : decode cX3_passes 100 = .ok (.iconst 1, 1) := dk_4 (dk_at dksX3_passes_4 5 rfl rfl)
theorem dX3_passes_101 : decode cX3_passes 101 = .ok (.iadd, 1) := dk_96 (dk_at dksX3_passes_4 6 rfl rfl)
theorem dX3_passes_102 : decode cX3_passes 102 = .ok (.invokestatic 127, 3) := dk_184 0 127 (dk_at dksX3_passes_4 7 rfl rfl)
theorem dX3_passes_105 : decode cX3_passes 105 = .ok (.iastore, 1) := dk_79 (dk_at dksX3_passes_4 10 rfl rfl)
theorem dX3_passes_106 : decode cX3_passes 106 = .ok (.aload_n 0, 1) := dk_42 (dk_at dksX3_passes_4 11 rfl rfl)
theorem dX3_passes_107 : decode cX3_passes 107 = .ok (.sipush 9999, 3) := dk_17 39 15 (dk_at dksX3_passes_4 12 rfl rfl)
theorem dX3_passes_110 : decode cX3_passes 110 = .ok (.aload_n 0, 1) := dk_42 (dk_at dksX3_passes_4 15 rfl rfl)
theorem dX3_passes_111 : decode cX3_passes 111 = .ok (.getfield 76, 3) := dk_180 0 76 (dk_at dksX3_passes_4 16 rfl rfl)
theorem dX3_passes_114 : decode cX3_passes 114 = .ok (.iconst 1, 1) := dk_4 (dk_at dksX3_passes_4 19 rfl rfl)
theorem dX3_passes_115 : decode cX3_passes 115 = .ok (.iadd, 1) := dk_96 (dk_at dksX3_passes_4 20 rfl rfl)
theorem dX3_passes_116 : decode cX3_passes 116 = .ok (.invokestatic 127, 3) := dk_184 0 127 (dk_at dksX3_passes_4 21 rfl rfl)
theorem dX3_passes_119 : decode cX3_passes 119 = .ok (.putfield 76, 3) := dk_181 0 76 (dk_at dksX3_passes_5 0 rfl rfl)
theorem dX3_passes_122 : decode cX3_passes 122 = .ok (.iload_n 1, 1) := dk_27 (dk_at dksX3_passes_5 3 rfl rfl)
theorem dX3_passes_123 : decode cX3_passes 123 = .ok (.ireturn, 1) := dk_172 (dk_at dksX3_passes_5 4 rfl rfl)
abbrev cX3_draw : ByteArray := prog_9_method_3_code
def yX3_draw : MethodName := ⟨RX3, "draw", "(I)I"⟩
def dkwX3_draw_1 : List UInt8 := [17, 127, 255, 126, 27, 112, 172]
abbrev dktX3_draw_1 : List UInt8 := dkwX3_draw_1 ++ []
def dkwX3_draw_0 : List UInt8 := [42, 18, 82, 42, 180, 0, 49, 104, 17, 48, 57, 96, 181, 0, 49, 42, 180, 0, 49, 16, 16, 124]
abbrev dktX3_draw_0 : List UInt8 := dkwX3_draw_0 ++ dktX3_draw_1
theorem dksX3_draw_0 : cX3_draw.data.toList.drop 0 = dktX3_draw_0 := by decide +kernel
theorem dksX3_draw_1 : cX3_draw.data.toList.drop 22 = dktX3_draw_1 := dk_seg dksX3_draw_0 22 rfl rfl
theorem dX3_draw_0 : decode cX3_draw 0 = .ok (.aload_n 0, 1) := dk_42 (dk_at dksX3_draw_0 0 rfl rfl)
theorem dX3_draw_1 : decode cX3_draw 1 = .ok (.ldc 82, 2) := dk_18 82 (dk_at dksX3_draw_0 1 rfl rfl)
theorem dX3_draw_3 : decode cX3_draw 3 = .ok (.aload_n 0, 1) := dk_42 (dk_at dksX3_draw_0 3 rfl rfl)
theorem dX3_draw_4 : decode cX3_draw 4 = .ok (.getfield 49, 3) := dk_180 0 49 (dk_at dksX3_draw_0 4 rfl rfl)
theorem dX3_draw_7 : decode cX3_draw 7 = .ok (.imul, 1) := dk_104 (dk_at dksX3_draw_0 7 rfl rfl)
theorem dX3_draw_8 : decode cX3_draw 8 = .ok (.sipush 12345, 3) := dk_17 48 57 (dk_at dksX3_draw_0 8 rfl rfl)
theorem dX3_draw_11 : decode cX3_draw 11 = .ok (.iadd, 1) := dk_96 (dk_at dksX3_draw_0 11 rfl rfl)
theorem dX3_draw_12 : decode cX3_draw 12 = .ok (.putfield 49, 3) := dk_181 0 49 (dk_at dksX3_draw_0 12 rfl rfl)
theorem dX3_draw_15 : decode cX3_draw 15 = .ok (.aload_n 0, 1) := dk_42 (dk_at dksX3_draw_0 15 rfl rfl)
theorem dX3_draw_16 : decode cX3_draw 16 = .ok (.getfield 49, 3) := dk_180 0 49 (dk_at dksX3_draw_0 16 rfl rfl)
theorem dX3_draw_19 : decode cX3_draw 19 = .ok (.bipush 16, 2) := dk_16 16 (dk_at dksX3_draw_0 19 rfl rfl)
theorem dX3_draw_21 : decode cX3_draw 21 = .ok (.iushr, 1) := dk_124 (dk_at dksX3_draw_0 21 rfl rfl)
theorem dX3_draw_22 : decode cX3_draw 22 = .ok (.sipush 32767, 3) := dk_17 127 255 (dk_at dksX3_draw_1 0 rfl rfl)
theorem dX3_draw_25 : decode cX3_draw 25 = .ok (.iand, 1) := dk_126 (dk_at dksX3_draw_1 3 rfl rfl)
theorem dX3_draw_26 : decode cX3_draw 26 = .ok (.iload_n 1, 1) := dk_27 (dk_at dksX3_draw_1 4 rfl rfl)
theorem dX3_draw_27 : decode cX3_draw 27 = .ok (.irem, 1) := dk_112 (dk_at dksX3_draw_1 5 rfl rfl)
theorem dX3_draw_28 : decode cX3_draw 28 = .ok (.ireturn, 1) := dk_172 (dk_at dksX3_draw_1 6 rfl rfl)
abbrev cX3_isKept : ByteArray := prog_9_method_16_code
def yX3_isKept : MethodName := ⟨RX3, "isKept", "(I)Z"⟩
def dkwX3_isKept_0 : List UInt8 := [27, 155, 0, 20, 27, 16, 60, 42, 180, 0, 79, 184, 0, 127, 162, 0, 7, 4, 167, 0, 4, 3, 172]
abbrev dktX3_isKept_0 : List UInt8 := dkwX3_isKept_0 ++ []
theorem dksX3_isKept_0 : cX3_isKept.data.toList.drop 0 = dktX3_isKept_0 := by decide +kernel
theorem dX3_isKept_0 : decode cX3_isKept 0 = .ok (.iload_n 1, 1) := dk_27 (dk_at dksX3_isKept_0 0 rfl rfl)
theorem dX3_isKept_1 : decode cX3_isKept 1 = .ok (.ifCond .lt 20, 3) := dk_155 0 20 (dk_at dksX3_isKept_0 1 rfl rfl)
theorem dX3_isKept_4 : decode cX3_isKept 4 = .ok (.iload_n 1, 1) := dk_27 (dk_at dksX3_isKept_0 4 rfl rfl)
theorem dX3_isKept_5 : decode cX3_isKept 5 = .ok (.bipush 60, 2) := dk_16 60 (dk_at dksX3_isKept_0 5 rfl rfl)
theorem dX3_isKept_7 : decode cX3_isKept 7 = .ok (.aload_n 0, 1) := dk_42 (dk_at dksX3_isKept_0 7 rfl rfl)
theorem dX3_isKept_8 : decode cX3_isKept 8 = .ok (.getfield 79, 3) := dk_180 0 79 (dk_at dksX3_isKept_0 8 rfl rfl)
theorem dX3_isKept_11 : decode cX3_isKept 11 = .ok (.invokestatic 127, 3) := dk_184 0 127 (dk_at dksX3_isKept_0 11 rfl rfl)
theorem dX3_isKept_14 : decode cX3_isKept 14 = .ok (.if_icmp .ge 7, 3) := dk_162 0 7 (dk_at dksX3_isKept_0 14 rfl rfl)
theorem dX3_isKept_17 : decode cX3_isKept 17 = .ok (.iconst 1, 1) := dk_4 (dk_at dksX3_isKept_0 17 rfl rfl)
theorem dX3_isKept_18 : decode cX3_isKept 18 = .ok (.goto 4, 3) := dk_167 0 4 (dk_at dksX3_isKept_0 18 rfl rfl)
theorem dX3_isKept_21 : decode cX3_isKept 21 = .ok (.iconst 0, 1) := dk_3 (dk_at dksX3_isKept_0 21 rfl rfl)
theorem dX3_isKept_22 : decode cX3_isKept 22 = .ok (.ireturn, 1) := dk_172 (dk_at dksX3_isKept_0 22 rfl rfl)
abbrev cX3_row : ByteArray := prog_9_method_17_code
def yX3_row : MethodName := ⟨RX3, "row", "(II)I"⟩
def dkwX3_row_1 : List UInt8 := [104, 28, 96, 46, 167, 0, 6, 17, 252, 24, 172]
abbrev dktX3_row_1 : List UInt8 := dkwX3_row_1 ++ []
def dkwX3_row_0 : List UInt8 := [42, 27, 182, 0, 165, 153, 0, 26, 42, 180, 0, 36, 42, 180, 0, 79, 4, 100, 27, 100, 16, 60, 112, 7]
abbrev dktX3_row_0 : List UInt8 := dkwX3_row_0 ++ dktX3_row_1
theorem dksX3_row_0 : cX3_row.data.toList.drop 0 = dktX3_row_0 := by decide +kernel
theorem dksX3_row_1 : cX3_row.data.toList.drop 24 = dktX3_row_1 := dk_seg dksX3_row_0 24 rfl rfl
theorem dX3_row_0 : decode cX3_row 0 = .ok (.aload_n 0, 1) := dk_42 (dk_at dksX3_row_0 0 rfl rfl)
theorem dX3_row_1 : decode cX3_row 1 = .ok (.iload_n 1, 1) := dk_27 (dk_at dksX3_row_0 1 rfl rfl)
theorem dX3_row_2 : decode cX3_row 2 = .ok (.invokevirtual 165, 3) := dk_182 0 165 (dk_at dksX3_row_0 2 rfl rfl)
theorem dX3_row_5 : decode cX3_row 5 = .ok (.ifCond .eq 26, 3) := dk_153 0 26 (dk_at dksX3_row_0 5 rfl rfl)
theorem dX3_row_8 : decode cX3_row 8 = .ok (.aload_n 0, 1) := dk_42 (dk_at dksX3_row_0 8 rfl rfl)
theorem dX3_row_9 : decode cX3_row 9 = .ok (.getfield 36, 3) := dk_180 0 36 (dk_at dksX3_row_0 9 rfl rfl)
theorem dX3_row_12 : decode cX3_row 12 = .ok (.aload_n 0, 1) := dk_42 (dk_at dksX3_row_0 12 rfl rfl)
theorem dX3_row_13 : decode cX3_row 13 = .ok (.getfield 79, 3) := dk_180 0 79 (dk_at dksX3_row_0 13 rfl rfl)
theorem dX3_row_16 : decode cX3_row 16 = .ok (.iconst 1, 1) := dk_4 (dk_at dksX3_row_0 16 rfl rfl)
theorem dX3_row_17 : decode cX3_row 17 = .ok (.isub, 1) := dk_100 (dk_at dksX3_row_0 17 rfl rfl)
theorem dX3_row_18 : decode cX3_row 18 = .ok (.iload_n 1, 1) := dk_27 (dk_at dksX3_row_0 18 rfl rfl)
theorem dX3_row_19 : decode cX3_row 19 = .ok (.isub, 1) := dk_100 (dk_at dksX3_row_0 19 rfl rfl)
theorem dX3_row_20 : decode cX3_row 20 = .ok (.bipush 60, 2) := dk_16 60 (dk_at dksX3_row_0 20 rfl rfl)
theorem dX3_row_22 : decode cX3_row 22 = .ok (.irem, 1) := dk_112 (dk_at dksX3_row_0 22 rfl rfl)
theorem dX3_row_23 : decode cX3_row 23 = .ok (.iconst 4, 1) := dk_7 (dk_at dksX3_row_0 23 rfl rfl)
theorem dX3_row_24 : decode cX3_row 24 = .ok (.imul, 1) := dk_104 (dk_at dksX3_row_1 0 rfl rfl)
theorem dX3_row_25 : decode cX3_row 25 = .ok (.iload_n 2, 1) := dk_28 (dk_at dksX3_row_1 1 rfl rfl)
theorem dX3_row_26 : decode cX3_row 26 = .ok (.iadd, 1) := dk_96 (dk_at dksX3_row_1 2 rfl rfl)
theorem dX3_row_27 : decode cX3_row 27 = .ok (.iaload, 1) := dk_46 (dk_at dksX3_row_1 3 rfl rfl)
theorem dX3_row_28 : decode cX3_row 28 = .ok (.goto 6, 3) := dk_167 0 6 (dk_at dksX3_row_1 4 rfl rfl)
theorem dX3_row_31 : decode cX3_row 31 = .ok (.sipush (-1000), 3) := dk_17 252 24 (dk_at dksX3_row_1 7 rfl rfl)
theorem dX3_row_34 : decode cX3_row 34 = .ok (.ireturn, 1) := dk_172 (dk_at dksX3_row_1 10 rfl rfl)
theorem q124 : (Jvm.Cond.initialized "BorrowedLuck$State") ∈ lw_all := lw_g (lw_at lw_m1 3 rfl) rfl
theorem q183 : (Jvm.Cond.instantiable "BorrowedLuck$State" (15 : Nat)) ∈ lw_all := lw_g (lw_at lw_m1 62 rfl) rfl
theorem q185 : (Jvm.Cond.instanceMethod ({ cls := "BorrowedLuck$State", name := "<init>", desc := "()V" } : Jvm.MethodName)) ∈ lw_all := lw_g (lw_at lw_m1 64 rfl) rfl
theorem q186 : (Jvm.Cond.code ({ cls := "BorrowedLuck$State", name := "<init>", desc := "()V" } : Jvm.MethodName) prog_9_method_1_code (2 : Nat) (Option.none : Option Jvm.ClassFile.FieldType)) ∈ lw_all := lw_g (lw_at lw_m1 65 rfl) rfl
theorem q187 : (Jvm.Cond.methodLink "BorrowedLuck$State" (3 : Nat) ({ cls := "java/lang/Object", name := "<init>", desc := "()V" } : Jvm.MethodName)) ∈ lw_all := lw_g (lw_at lw_m1 66 rfl) rfl
theorem q188 : (Jvm.Cond.classLink "BorrowedLuck$State" (9 : Nat) "BorrowedLuck$Woman") ∈ lw_all := lw_g (lw_at lw_m1 67 rfl) rfl
theorem q190 : (Jvm.Cond.classLink "BorrowedLuck$State" (17 : Nat) "BorrowedLuck$Thing") ∈ lw_all := lw_g (lw_at lw_m1 69 rfl) rfl
theorem q192 : (Jvm.Cond.classLink "BorrowedLuck$State" (23 : Nat) "BorrowedLuck$Line") ∈ lw_all := lw_g (lw_at lw_m1 71 rfl) rfl
theorem q194 : (Jvm.Cond.methodLinkNest "BorrowedLuck$State" (52 : Nat) ({ cls := "BorrowedLuck$Woman", name := "<init>", desc := "()V" } : Jvm.MethodName) "BorrowedLuck") ∈ lw_tbl := lw_at lw_m1 73 rfl
theorem q199 : (Jvm.Cond.fieldLinkNest "BorrowedLuck$State" (89 : Nat) "BorrowedLuck$Woman" "luck" "[I" "BorrowedLuck") ∈ lw_tbl := lw_at lw_m1 78 rfl
theorem q206 : (Jvm.Cond.fieldLinkNest "BorrowedLuck$State" (86 : Nat) "BorrowedLuck$Woman" "wed" "I" "BorrowedLuck") ∈ lw_tbl := lw_at lw_m1 85 rfl
theorem q210 : (Jvm.Cond.fieldLinkNest "BorrowedLuck$State" (93 : Nat) "BorrowedLuck$Woman" "widow" "Z" "BorrowedLuck") ∈ lw_tbl := lw_at lw_m1 89 rfl
theorem q225 : (Jvm.Cond.methodLinkNest "BorrowedLuck$State" (53 : Nat) ({ cls := "BorrowedLuck$Thing", name := "<init>", desc := "()V" } : Jvm.MethodName) "BorrowedLuck") ∈ lw_tbl := lw_at lw_m1 104 rfl
theorem q230 : (Jvm.Cond.fieldLinkNest "BorrowedLuck$State" (92 : Nat) "BorrowedLuck$Thing" "luck" "[I" "BorrowedLuck") ∈ lw_tbl := lw_at lw_m1 109 rfl
theorem q234 : (Jvm.Cond.fieldLinkNest "BorrowedLuck$State" (97 : Nat) "BorrowedLuck$Thing" "owner" "I" "BorrowedLuck") ∈ lw_tbl := lw_at lw_m1 113 rfl
theorem q238 : (Jvm.Cond.fieldLinkNest "BorrowedLuck$State" (150 : Nat) "BorrowedLuck$Thing" "holder" "I" "BorrowedLuck") ∈ lw_tbl := lw_at lw_m1 117 rfl
theorem q242 : (Jvm.Cond.fieldLinkNest "BorrowedLuck$State" (83 : Nat) "BorrowedLuck$Thing" "wear" "I" "BorrowedLuck") ∈ lw_tbl := lw_at lw_m1 121 rfl
theorem q246 : (Jvm.Cond.fieldLinkNest "BorrowedLuck$State" (140 : Nat) "BorrowedLuck$Thing" "stuck" "Z" "BorrowedLuck") ∈ lw_tbl := lw_at lw_m1 125 rfl
theorem q250 : (Jvm.Cond.fieldLinkNest "BorrowedLuck$State" (100 : Nat) "BorrowedLuck$Thing" "blue" "Z" "BorrowedLuck") ∈ lw_tbl := lw_at lw_m1 129 rfl
theorem q266 : (Jvm.Cond.fieldLink "BorrowedLuck$State" (11 : Nat) "BorrowedLuck$State" "women" "[LBorrowedLuck$Woman;") ∈ lw_all := lw_g (lw_at lw_m1 145 rfl) rfl
theorem q269 : (Jvm.Cond.fieldLink "BorrowedLuck$State" (19 : Nat) "BorrowedLuck$State" "things" "[LBorrowedLuck$Thing;") ∈ lw_all := lw_g (lw_at lw_m1 148 rfl) rfl
theorem q272 : (Jvm.Cond.fieldLink "BorrowedLuck$State" (25 : Nat) "BorrowedLuck$State" "law" "[LBorrowedLuck$Line;") ∈ lw_all := lw_g (lw_at lw_m1 151 rfl) rfl
theorem q274 : (Jvm.Cond.fieldLink "BorrowedLuck$State" (29 : Nat) "BorrowedLuck$State" "facts" "[I") ∈ lw_all := lw_g (lw_at lw_m1 153 rfl) rfl
theorem q275 : (Jvm.Cond.fieldLink "BorrowedLuck$State" (33 : Nat) "BorrowedLuck$State" "flows" "[I") ∈ lw_all := lw_g (lw_at lw_m1 154 rfl) rfl
theorem q276 : (Jvm.Cond.fieldLink "BorrowedLuck$State" (36 : Nat) "BorrowedLuck$State" "rows" "[I") ∈ lw_all := lw_g (lw_at lw_m1 155 rfl) rfl
theorem q277 : (Jvm.Cond.fieldLink "BorrowedLuck$State" (54 : Nat) "BorrowedLuck$State" "many" "I") ∈ lw_all := lw_g (lw_at lw_m1 156 rfl) rfl
theorem q280 : (Jvm.Cond.fieldLink "BorrowedLuck$State" (61 : Nat) "BorrowedLuck$State" "thingMany" "I") ∈ lw_all := lw_g (lw_at lw_m1 159 rfl) rfl
theorem q283 : (Jvm.Cond.fieldLink "BorrowedLuck$State" (39 : Nat) "BorrowedLuck$State" "lawMany" "I") ∈ lw_all := lw_g (lw_at lw_m1 162 rfl) rfl
theorem q285 : (Jvm.Cond.fieldLink "BorrowedLuck$State" (73 : Nat) "BorrowedLuck$State" "texts" "I") ∈ lw_all := lw_g (lw_at lw_m1 164 rfl) rfl
theorem q287 : (Jvm.Cond.fieldLink "BorrowedLuck$State" (76 : Nat) "BorrowedLuck$State" "day" "I") ∈ lw_all := lw_g (lw_at lw_m1 166 rfl) rfl
theorem q290 : (Jvm.Cond.fieldLink "BorrowedLuck$State" (43 : Nat) "BorrowedLuck$State" "price" "I") ∈ lw_all := lw_g (lw_at lw_m1 169 rfl) rfl
theorem q293 : (Jvm.Cond.fieldLink "BorrowedLuck$State" (46 : Nat) "BorrowedLuck$State" "love" "I") ∈ lw_all := lw_g (lw_at lw_m1 172 rfl) rfl
theorem q296 : (Jvm.Cond.fieldLink "BorrowedLuck$State" (49 : Nat) "BorrowedLuck$State" "seed" "I") ∈ lw_all := lw_g (lw_at lw_m1 175 rfl) rfl
theorem q298 : (Jvm.Cond.fieldLink "BorrowedLuck$State" (79 : Nat) "BorrowedLuck$State" "rowMany" "I") ∈ lw_all := lw_g (lw_at lw_m1 177 rfl) rfl
theorem q300 : (Jvm.Cond.laysFinal "BorrowedLuck$State" "BorrowedLuck$State" "women" "[LBorrowedLuck$Woman;") ∈ lw_all := lw_g (lw_at lw_m1 179 rfl) rfl
theorem q301 : (Jvm.Cond.soleField "BorrowedLuck$State" "women") ∈ lw_all := lw_g (lw_at lw_m1 180 rfl) rfl
theorem q302 : (Jvm.Cond.laysFinal "BorrowedLuck$State" "BorrowedLuck$State" "things" "[LBorrowedLuck$Thing;") ∈ lw_all := lw_g (lw_at lw_m1 181 rfl) rfl
theorem q303 : (Jvm.Cond.soleField "BorrowedLuck$State" "things") ∈ lw_all := lw_g (lw_at lw_m1 182 rfl) rfl
theorem q304 : (Jvm.Cond.laysFinal "BorrowedLuck$State" "BorrowedLuck$State" "law" "[LBorrowedLuck$Line;") ∈ lw_all := lw_g (lw_at lw_m1 183 rfl) rfl
theorem q305 : (Jvm.Cond.soleField "BorrowedLuck$State" "law") ∈ lw_all := lw_g (lw_at lw_m1 184 rfl) rfl
theorem q306 : (Jvm.Cond.laysFinal "BorrowedLuck$State" "BorrowedLuck$State" "facts" "[I") ∈ lw_all := lw_g (lw_at lw_m1 185 rfl) rfl
theorem q307 : (Jvm.Cond.soleField "BorrowedLuck$State" "facts") ∈ lw_all := lw_g (lw_at lw_m1 186 rfl) rfl
theorem q308 : (Jvm.Cond.laysFinal "BorrowedLuck$State" "BorrowedLuck$State" "flows" "[I") ∈ lw_all := lw_g (lw_at lw_m1 187 rfl) rfl
theorem q309 : (Jvm.Cond.soleField "BorrowedLuck$State" "flows") ∈ lw_all := lw_g (lw_at lw_m1 188 rfl) rfl
theorem q310 : (Jvm.Cond.laysFinal "BorrowedLuck$State" "BorrowedLuck$State" "rows" "[I") ∈ lw_all := lw_g (lw_at lw_m1 189 rfl) rfl
theorem q311 : (Jvm.Cond.soleField "BorrowedLuck$State" "rows") ∈ lw_all := lw_g (lw_at lw_m1 190 rfl) rfl
theorem q312 : (Jvm.Cond.lays "BorrowedLuck$State" "BorrowedLuck$State" "many" "I") ∈ lw_all := lw_g (lw_at lw_m1 191 rfl) rfl
theorem q313 : (Jvm.Cond.soleField "BorrowedLuck$State" "many") ∈ lw_all := lw_g (lw_at lw_m1 192 rfl) rfl
theorem q314 : (Jvm.Cond.lays "BorrowedLuck$State" "BorrowedLuck$State" "thingMany" "I") ∈ lw_all := lw_g (lw_at lw_m1 193 rfl) rfl
theorem q315 : (Jvm.Cond.soleField "BorrowedLuck$State" "thingMany") ∈ lw_all := lw_g (lw_at lw_m1 194 rfl) rfl
theorem q316 : (Jvm.Cond.lays "BorrowedLuck$State" "BorrowedLuck$State" "lawMany" "I") ∈ lw_all := lw_g (lw_at lw_m1 195 rfl) rfl
theorem q317 : (Jvm.Cond.soleField "BorrowedLuck$State" "lawMany") ∈ lw_all := lw_g (lw_at lw_m1 196 rfl) rfl
theorem q318 : (Jvm.Cond.lays "BorrowedLuck$State" "BorrowedLuck$State" "texts" "I") ∈ lw_all := lw_g (lw_at lw_m1 197 rfl) rfl
theorem q319 : (Jvm.Cond.soleField "BorrowedLuck$State" "texts") ∈ lw_all := lw_g (lw_at lw_m1 198 rfl) rfl
theorem q320 : (Jvm.Cond.lays "BorrowedLuck$State" "BorrowedLuck$State" "day" "I") ∈ lw_all := lw_g (lw_at lw_m1 199 rfl) rfl
theorem q321 : (Jvm.Cond.soleField "BorrowedLuck$State" "day") ∈ lw_all := lw_g (lw_at lw_m1 200 rfl) rfl
theorem q322 : (Jvm.Cond.lays "BorrowedLuck$State" "BorrowedLuck$State" "price" "I") ∈ lw_all := lw_g (lw_at lw_m1 201 rfl) rfl
theorem q323 : (Jvm.Cond.soleField "BorrowedLuck$State" "price") ∈ lw_all := lw_g (lw_at lw_m1 202 rfl) rfl
theorem q324 : (Jvm.Cond.lays "BorrowedLuck$State" "BorrowedLuck$State" "love" "I") ∈ lw_all := lw_g (lw_at lw_m1 203 rfl) rfl
theorem q325 : (Jvm.Cond.soleField "BorrowedLuck$State" "love") ∈ lw_all := lw_g (lw_at lw_m1 204 rfl) rfl
theorem q326 : (Jvm.Cond.lays "BorrowedLuck$State" "BorrowedLuck$State" "seed" "I") ∈ lw_all := lw_g (lw_at lw_m1 205 rfl) rfl
theorem q327 : (Jvm.Cond.soleField "BorrowedLuck$State" "seed") ∈ lw_all := lw_g (lw_at lw_m1 206 rfl) rfl
theorem q328 : (Jvm.Cond.lays "BorrowedLuck$State" "BorrowedLuck$State" "rowMany" "I") ∈ lw_all := lw_g (lw_at lw_m1 207 rfl) rfl
theorem q329 : (Jvm.Cond.soleField "BorrowedLuck$State" "rowMany") ∈ lw_all := lw_g (lw_at lw_m1 208 rfl) rfl
theorem q330 : (Jvm.Cond.superclass "BorrowedLuck$State" "java/lang/Object") ∈ lw_all := lw_g (lw_at lw_m1 209 rfl) rfl
theorem q544 : (Jvm.Cond.instanceMethod ({ cls := "BorrowedLuck$State", name := "stuckOnes", desc := "()I" } : Jvm.MethodName)) ∈ lw_all := lw_g (lw_at lw_m2 183 rfl) rfl
theorem q545 : (Jvm.Cond.selects "BorrowedLuck$State" ({ cls := "BorrowedLuck$State", name := "stuckOnes", desc := "()I" } : Jvm.MethodName) ({ cls := "BorrowedLuck$State", name := "stuckOnes", desc := "()I" } : Jvm.MethodName)) ∈ lw_all := lw_g (lw_at lw_m2 184 rfl) rfl
theorem q546 : (Jvm.Cond.code ({ cls := "BorrowedLuck$State", name := "stuckOnes", desc := "()I" } : Jvm.MethodName) prog_9_method_15_code (3 : Nat) (Option.some Jvm.ClassFile.FieldType.int)) ∈ lw_all := lw_g (lw_at lw_m2 185 rfl) rfl
theorem q572 : (Jvm.Cond.instanceMethod ({ cls := "BorrowedLuck$State", name := "comes", desc := "(II)Z" } : Jvm.MethodName)) ∈ lw_all := lw_g (lw_at lw_m2 211 rfl) rfl
theorem q573 : (Jvm.Cond.selects "BorrowedLuck$State" ({ cls := "BorrowedLuck$State", name := "comes", desc := "(II)Z" } : Jvm.MethodName) ({ cls := "BorrowedLuck$State", name := "comes", desc := "(II)Z" } : Jvm.MethodName)) ∈ lw_all := lw_g (lw_at lw_m2 212 rfl) rfl
theorem q574 : (Jvm.Cond.code ({ cls := "BorrowedLuck$State", name := "comes", desc := "(II)Z" } : Jvm.MethodName) prog_9_method_12_code (4 : Nat) (Option.some Jvm.ClassFile.FieldType.boolean)) ∈ lw_all := lw_g (lw_at lw_m2 213 rfl) rfl
theorem q575 : (Jvm.Cond.methodLink "BorrowedLuck$State" (146 : Nat) ({ cls := "BorrowedLuck$Thing", name := "isFreeFor", desc := "(I)Z" } : Jvm.MethodName)) ∈ lw_all := lw_g (lw_at lw_m2 214 rfl) rfl
theorem q588 : (Jvm.Cond.instanceMethod ({ cls := "BorrowedLuck$State", name := "be", desc := "(LBorrowedLuck$State;)V" } : Jvm.MethodName)) ∈ lw_all := lw_g (lw_at lw_m2 227 rfl) rfl
theorem q589 : (Jvm.Cond.selects "BorrowedLuck$State" ({ cls := "BorrowedLuck$State", name := "be", desc := "(LBorrowedLuck$State;)V" } : Jvm.MethodName) ({ cls := "BorrowedLuck$State", name := "be", desc := "(LBorrowedLuck$State;)V" } : Jvm.MethodName)) ∈ lw_all := lw_g (lw_at lw_m2 228 rfl) rfl
theorem q590 : (Jvm.Cond.code ({ cls := "BorrowedLuck$State", name := "be", desc := "(LBorrowedLuck$State;)V" } : Jvm.MethodName) prog_9_method_2_code (3 : Nat) (Option.none : Option Jvm.ClassFile.FieldType)) ∈ lw_all := lw_g (lw_at lw_m2 229 rfl) rfl
theorem q591 : (Jvm.Cond.methodLink "BorrowedLuck$State" (57 : Nat) ({ cls := "BorrowedLuck$Woman", name := "be", desc := "(LBorrowedLuck$Woman;)V" } : Jvm.MethodName)) ∈ lw_all := lw_g (lw_at lw_m2 230 rfl) rfl
theorem q598 : (Jvm.Cond.methodLink "BorrowedLuck$State" (64 : Nat) ({ cls := "BorrowedLuck$Thing", name := "be", desc := "(LBorrowedLuck$Thing;)V" } : Jvm.MethodName)) ∈ lw_all := lw_g (lw_at lw_m2 237 rfl) rfl
theorem q603 : (Jvm.Cond.methodLink "BorrowedLuck$State" (67 : Nat) ({ cls := "java/lang/System", name := "arraycopy", desc := "(Ljava/lang/Object;ILjava/lang/Object;II)V" } : Jvm.MethodName)) ∈ lw_all := lw_g (lw_at lw_m3 2 rfl) rfl
theorem q617 : (Jvm.Cond.instanceMethod ({ cls := "BorrowedLuck$State", name := "luckOfAll", desc := "()I" } : Jvm.MethodName)) ∈ lw_all := lw_g (lw_at lw_m3 16 rfl) rfl
theorem q618 : (Jvm.Cond.selects "BorrowedLuck$State" ({ cls := "BorrowedLuck$State", name := "luckOfAll", desc := "()I" } : Jvm.MethodName) ({ cls := "BorrowedLuck$State", name := "luckOfAll", desc := "()I" } : Jvm.MethodName)) ∈ lw_all := lw_g (lw_at lw_m3 17 rfl) rfl
theorem q619 : (Jvm.Cond.code ({ cls := "BorrowedLuck$State", name := "luckOfAll", desc := "()I" } : Jvm.MethodName) prog_9_method_14_code (3 : Nat) (Option.some Jvm.ClassFile.FieldType.int)) ∈ lw_all := lw_g (lw_at lw_m3 18 rfl) rfl
theorem q620 : (Jvm.Cond.methodLinkNest "BorrowedLuck$State" (162 : Nat) ({ cls := "BorrowedLuck", name := "sum", desc := "([I)I" } : Jvm.MethodName) "BorrowedLuck") ∈ lw_tbl := lw_at lw_m3 19 rfl
theorem q1043 : (Jvm.Cond.instanceMethod ({ cls := "BorrowedLuck$State", name := "gain", desc := "(II)I" } : Jvm.MethodName)) ∈ lw_all := lw_g (lw_at lw_m4 202 rfl) rfl
theorem q1044 : (Jvm.Cond.selects "BorrowedLuck$State" ({ cls := "BorrowedLuck$State", name := "gain", desc := "(II)I" } : Jvm.MethodName) ({ cls := "BorrowedLuck$State", name := "gain", desc := "(II)I" } : Jvm.MethodName)) ∈ lw_all := lw_g (lw_at lw_m4 203 rfl) rfl
theorem q1045 : (Jvm.Cond.code ({ cls := "BorrowedLuck$State", name := "gain", desc := "(II)I" } : Jvm.MethodName) prog_9_method_9_code (5 : Nat) (Option.some Jvm.ClassFile.FieldType.int)) ∈ lw_all := lw_g (lw_at lw_m4 204 rfl) rfl
theorem q1046 : (Jvm.Cond.methodLink "BorrowedLuck$State" (131 : Nat) ({ cls := "BorrowedLuck$State", name := "more", desc := "(III)I" } : Jvm.MethodName)) ∈ lw_all := lw_g (lw_at lw_m4 205 rfl) rfl
theorem q1047 : (Jvm.Cond.instanceMethod ({ cls := "BorrowedLuck$State", name := "more", desc := "(III)I" } : Jvm.MethodName)) ∈ lw_all := lw_g (lw_at lw_m4 206 rfl) rfl
theorem q1048 : (Jvm.Cond.selects "BorrowedLuck$State" ({ cls := "BorrowedLuck$State", name := "more", desc := "(III)I" } : Jvm.MethodName) ({ cls := "BorrowedLuck$State", name := "more", desc := "(III)I" } : Jvm.MethodName)) ∈ lw_all := lw_g (lw_at lw_m4 207 rfl) rfl
theorem q1049 : (Jvm.Cond.code ({ cls := "BorrowedLuck$State", name := "more", desc := "(III)I" } : Jvm.MethodName) prog_9_method_8_code (6 : Nat) (Option.some Jvm.ClassFile.FieldType.int)) ∈ lw_all := lw_g (lw_at lw_m4 208 rfl) rfl
theorem q1050 : (Jvm.Cond.methodLink "BorrowedLuck$State" (117 : Nat) ({ cls := "BorrowedLuck$State", name := "flowsBy", desc := "(III)I" } : Jvm.MethodName)) ∈ lw_all := lw_g (lw_at lw_m4 209 rfl) rfl
theorem q1051 : (Jvm.Cond.instanceMethod ({ cls := "BorrowedLuck$State", name := "flowsBy", desc := "(III)I" } : Jvm.MethodName)) ∈ lw_all := lw_g (lw_at lw_m4 210 rfl) rfl
theorem q1052 : (Jvm.Cond.selects "BorrowedLuck$State" ({ cls := "BorrowedLuck$State", name := "flowsBy", desc := "(III)I" } : Jvm.MethodName) ({ cls := "BorrowedLuck$State", name := "flowsBy", desc := "(III)I" } : Jvm.MethodName)) ∈ lw_all := lw_g (lw_at lw_m4 211 rfl) rfl
theorem q1053 : (Jvm.Cond.code ({ cls := "BorrowedLuck$State", name := "flowsBy", desc := "(III)I" } : Jvm.MethodName) prog_9_method_5_code (6 : Nat) (Option.some Jvm.ClassFile.FieldType.int)) ∈ lw_all := lw_g (lw_at lw_m4 212 rfl) rfl
theorem q1054 : (Jvm.Cond.methodLink "BorrowedLuck$State" (103 : Nat) ({ cls := "BorrowedLuck$State", name := "tells", desc := "(III)V" } : Jvm.MethodName)) ∈ lw_all := lw_g (lw_at lw_m4 213 rfl) rfl
theorem q1055 : (Jvm.Cond.privateMethod ({ cls := "BorrowedLuck$State", name := "tells", desc := "(III)V" } : Jvm.MethodName)) ∈ lw_tbl := lw_at lw_m4 214 rfl
theorem q1056 : (Jvm.Cond.instanceMethod ({ cls := "BorrowedLuck$State", name := "tells", desc := "(III)V" } : Jvm.MethodName)) ∈ lw_all := lw_g (lw_at lw_m4 215 rfl) rfl
theorem q1057 : (Jvm.Cond.code ({ cls := "BorrowedLuck$State", name := "tells", desc := "(III)V" } : Jvm.MethodName) prog_9_method_4_code (6 : Nat) (Option.none : Option Jvm.ClassFile.FieldType)) ∈ lw_all := lw_g (lw_at lw_m4 216 rfl) rfl
theorem q1058 : (Jvm.Cond.methodLink "BorrowedLuck$State" (107 : Nat) ({ cls := "BorrowedLuck$Line", name := "flows", desc := "([I)I" } : Jvm.MethodName)) ∈ lw_all := lw_g (lw_at lw_m4 217 rfl) rfl
theorem q1109 : (Jvm.Cond.methodLink "BorrowedLuck$State" (121 : Nat) ({ cls := "java/lang/Math", name := "abs", desc := "(I)I" } : Jvm.MethodName)) ∈ lw_all := lw_g (lw_at lw_m5 28 rfl) rfl
theorem q1112 : (Jvm.Cond.methodLink "BorrowedLuck$State" (127 : Nat) ({ cls := "java/lang/Math", name := "min", desc := "(II)I" } : Jvm.MethodName)) ∈ lw_all := lw_g (lw_at lw_m5 31 rfl) rfl
theorem q1165 : (Jvm.Cond.instanceMethod ({ cls := "BorrowedLuck$State", name := "weds", desc := "(II)I" } : Jvm.MethodName)) ∈ lw_all := lw_g (lw_at lw_m5 84 rfl) rfl
theorem q1166 : (Jvm.Cond.selects "BorrowedLuck$State" ({ cls := "BorrowedLuck$State", name := "weds", desc := "(II)I" } : Jvm.MethodName) ({ cls := "BorrowedLuck$State", name := "weds", desc := "(II)I" } : Jvm.MethodName)) ∈ lw_all := lw_g (lw_at lw_m5 85 rfl) rfl
theorem q1167 : (Jvm.Cond.code ({ cls := "BorrowedLuck$State", name := "weds", desc := "(II)I" } : Jvm.MethodName) prog_9_method_11_code (9 : Nat) (Option.some Jvm.ClassFile.FieldType.int)) ∈ lw_all := lw_g (lw_at lw_m5 86 rfl) rfl
theorem q1168 : (Jvm.Cond.methodLink "BorrowedLuck$State" (134 : Nat) ({ cls := "BorrowedLuck$State", name := "wearsBy", desc := "(II)I" } : Jvm.MethodName)) ∈ lw_all := lw_g (lw_at lw_m5 87 rfl) rfl
theorem q1169 : (Jvm.Cond.privateMethod ({ cls := "BorrowedLuck$State", name := "wearsBy", desc := "(II)I" } : Jvm.MethodName)) ∈ lw_tbl := lw_at lw_m5 88 rfl
theorem q1170 : (Jvm.Cond.instanceMethod ({ cls := "BorrowedLuck$State", name := "wearsBy", desc := "(II)I" } : Jvm.MethodName)) ∈ lw_all := lw_g (lw_at lw_m5 89 rfl) rfl
theorem q1171 : (Jvm.Cond.code ({ cls := "BorrowedLuck$State", name := "wearsBy", desc := "(II)I" } : Jvm.MethodName) prog_9_method_6_code (5 : Nat) (Option.some Jvm.ClassFile.FieldType.int)) ∈ lw_all := lw_g (lw_at lw_m5 90 rfl) rfl
theorem q1172 : (Jvm.Cond.methodLink "BorrowedLuck$State" (110 : Nat) ({ cls := "BorrowedLuck$Line", name := "wears", desc := "([I)I" } : Jvm.MethodName)) ∈ lw_all := lw_g (lw_at lw_m5 91 rfl) rfl
theorem q1184 : (Jvm.Cond.methodLink "BorrowedLuck$State" (137 : Nat) ({ cls := "BorrowedLuck$State", name := "sticks", desc := "(II)Z" } : Jvm.MethodName)) ∈ lw_all := lw_g (lw_at lw_m5 103 rfl) rfl
theorem q1185 : (Jvm.Cond.privateMethod ({ cls := "BorrowedLuck$State", name := "sticks", desc := "(II)Z" } : Jvm.MethodName)) ∈ lw_tbl := lw_at lw_m5 104 rfl
theorem q1186 : (Jvm.Cond.instanceMethod ({ cls := "BorrowedLuck$State", name := "sticks", desc := "(II)Z" } : Jvm.MethodName)) ∈ lw_all := lw_g (lw_at lw_m5 105 rfl) rfl
theorem q1187 : (Jvm.Cond.code ({ cls := "BorrowedLuck$State", name := "sticks", desc := "(II)Z" } : Jvm.MethodName) prog_9_method_7_code (5 : Nat) (Option.some Jvm.ClassFile.FieldType.boolean)) ∈ lw_all := lw_g (lw_at lw_m5 106 rfl) rfl
theorem q1188 : (Jvm.Cond.methodLink "BorrowedLuck$State" (113 : Nat) ({ cls := "BorrowedLuck$Line", name := "sticks", desc := "([I)Z" } : Jvm.MethodName)) ∈ lw_all := lw_g (lw_at lw_m5 107 rfl) rfl
theorem q1200 : (Jvm.Cond.methodLink "BorrowedLuck$State" (143 : Nat) ({ cls := "BorrowedLuck$State", name := "writes", desc := "(III)V" } : Jvm.MethodName)) ∈ lw_all := lw_g (lw_at lw_m5 119 rfl) rfl
theorem q1201 : (Jvm.Cond.privateMethod ({ cls := "BorrowedLuck$State", name := "writes", desc := "(III)V" } : Jvm.MethodName)) ∈ lw_tbl := lw_at lw_m5 120 rfl
theorem q1202 : (Jvm.Cond.instanceMethod ({ cls := "BorrowedLuck$State", name := "writes", desc := "(III)V" } : Jvm.MethodName)) ∈ lw_all := lw_g (lw_at lw_m5 121 rfl) rfl
theorem q1203 : (Jvm.Cond.code ({ cls := "BorrowedLuck$State", name := "writes", desc := "(III)V" } : Jvm.MethodName) prog_9_method_10_code (5 : Nat) (Option.none : Option Jvm.ClassFile.FieldType)) ∈ lw_all := lw_g (lw_at lw_m5 122 rfl) rfl
theorem q1244 : (Jvm.Cond.instanceMethod ({ cls := "BorrowedLuck$State", name := "passes", desc := "()I" } : Jvm.MethodName)) ∈ lw_all := lw_g (lw_at lw_m5 163 rfl) rfl
theorem q1245 : (Jvm.Cond.selects "BorrowedLuck$State" ({ cls := "BorrowedLuck$State", name := "passes", desc := "()I" } : Jvm.MethodName) ({ cls := "BorrowedLuck$State", name := "passes", desc := "()I" } : Jvm.MethodName)) ∈ lw_all := lw_g (lw_at lw_m5 164 rfl) rfl
theorem q1246 : (Jvm.Cond.code ({ cls := "BorrowedLuck$State", name := "passes", desc := "()I" } : Jvm.MethodName) prog_9_method_13_code (5 : Nat) (Option.some Jvm.ClassFile.FieldType.int)) ∈ lw_all := lw_g (lw_at lw_m5 165 rfl) rfl
theorem q1247 : (Jvm.Cond.methodLink "BorrowedLuck$State" (153 : Nat) ({ cls := "BorrowedLuck$State", name := "draw", desc := "(I)I" } : Jvm.MethodName)) ∈ lw_all := lw_g (lw_at lw_m5 166 rfl) rfl
theorem q1248 : (Jvm.Cond.instanceMethod ({ cls := "BorrowedLuck$State", name := "draw", desc := "(I)I" } : Jvm.MethodName)) ∈ lw_all := lw_g (lw_at lw_m5 167 rfl) rfl
theorem q1249 : (Jvm.Cond.selects "BorrowedLuck$State" ({ cls := "BorrowedLuck$State", name := "draw", desc := "(I)I" } : Jvm.MethodName) ({ cls := "BorrowedLuck$State", name := "draw", desc := "(I)I" } : Jvm.MethodName)) ∈ lw_all := lw_g (lw_at lw_m5 168 rfl) rfl
theorem q1250 : (Jvm.Cond.code ({ cls := "BorrowedLuck$State", name := "draw", desc := "(I)I" } : Jvm.MethodName) prog_9_method_3_code (2 : Nat) (Option.some Jvm.ClassFile.FieldType.int)) ∈ lw_all := lw_g (lw_at lw_m5 169 rfl) rfl
theorem q1251 : (Jvm.Cond.constant "BorrowedLuck$State" (82 : Nat) (1103515245 : Int32)) ∈ lw_all := lw_g (lw_at lw_m5 170 rfl) rfl
theorem q1252 : (Jvm.Cond.methodLink "BorrowedLuck$State" (156 : Nat) ({ cls := "BorrowedLuck$State", name := "comes", desc := "(II)Z" } : Jvm.MethodName)) ∈ lw_all := lw_g (lw_at lw_m5 171 rfl) rfl
theorem q1253 : (Jvm.Cond.methodLink "BorrowedLuck$State" (159 : Nat) ({ cls := "BorrowedLuck$State", name := "weds", desc := "(II)I" } : Jvm.MethodName)) ∈ lw_all := lw_g (lw_at lw_m5 172 rfl) rfl
theorem q1318 : (Jvm.Cond.instanceMethod ({ cls := "BorrowedLuck$State", name := "isKept", desc := "(I)Z" } : Jvm.MethodName)) ∈ lw_all := lw_g (lw_at lw_m5 237 rfl) rfl
theorem q1319 : (Jvm.Cond.selects "BorrowedLuck$State" ({ cls := "BorrowedLuck$State", name := "isKept", desc := "(I)Z" } : Jvm.MethodName) ({ cls := "BorrowedLuck$State", name := "isKept", desc := "(I)Z" } : Jvm.MethodName)) ∈ lw_all := lw_g (lw_at lw_m5 238 rfl) rfl
theorem q1320 : (Jvm.Cond.code ({ cls := "BorrowedLuck$State", name := "isKept", desc := "(I)Z" } : Jvm.MethodName) prog_9_method_16_code (2 : Nat) (Option.some Jvm.ClassFile.FieldType.boolean)) ∈ lw_all := lw_g (lw_at lw_m5 239 rfl) rfl
theorem q1322 : (Jvm.Cond.instanceMethod ({ cls := "BorrowedLuck$State", name := "row", desc := "(II)I" } : Jvm.MethodName)) ∈ lw_all := lw_g (lw_at lw_m6 1 rfl) rfl
theorem q1323 : (Jvm.Cond.selects "BorrowedLuck$State" ({ cls := "BorrowedLuck$State", name := "row", desc := "(II)I" } : Jvm.MethodName) ({ cls := "BorrowedLuck$State", name := "row", desc := "(II)I" } : Jvm.MethodName)) ∈ lw_all := lw_g (lw_at lw_m6 2 rfl) rfl
theorem q1324 : (Jvm.Cond.code ({ cls := "BorrowedLuck$State", name := "row", desc := "(II)I" } : Jvm.MethodName) prog_9_method_17_code (3 : Nat) (Option.some Jvm.ClassFile.FieldType.int)) ∈ lw_all := lw_g (lw_at lw_m6 3 rfl) rfl
theorem q1325 : (Jvm.Cond.methodLink "BorrowedLuck$State" (165 : Nat) ({ cls := "BorrowedLuck$State", name := "isKept", desc := "(I)Z" } : Jvm.MethodName)) ∈ lw_all := lw_g (lw_at lw_m6 4 rfl) rfl
theorem q2092 : (Jvm.Cond.castable "BorrowedLuck$State" "java/lang/Object") ∈ lw_tbl := lw_at lw_m9 51 rfl
theorem in_X3 : ∀ w ∈ wsX30, w ∈ lw_all := lw_in wsX30 [300, 302, 304, 306, 308, 310, 312, 314, 316, 318, 320, 322, 324, 326, 328] (by decide +kernel) (by decide +kernel)

/-! BorrowedLuck$Woman -/
set_option maxRecDepth 100000
def RX4 : String := "BorrowedLuck$Woman"
def TX4 : u_T := fun k => match k with
  | 0 => ("BorrowedLuck$Woman", "luck", "[I", true)
  | 1 => ("BorrowedLuck$Woman", "purse", "I", false)
  | 2 => ("BorrowedLuck$Woman", "wed", "I", false)
  | _ => ("BorrowedLuck$Woman", "widow", "Z", false)
def tyX4 : Nat → FieldType := fun k => match k with
  | 0 => .array .int
  | 1 => .int
  | 2 => .int
  | _ => .boolean
abbrev wsX40 : List Cond := u_ws RX4 TX4 4
theorem nmX4 : ∀ a, a < 4 → ∀ b, b < 4 → a ≠ b → (TX4 a).2.1 ≠ (TX4 b).2.1 := by decide +kernel
theorem tyX4_ok : ∀ k, k < 4 → parseFieldDescriptor (TX4 k).2.2.1 = some (tyX4 k) := by decide +kernel
abbrev cX4_init : ByteArray := prog_15_method_1_code
def yX4_init : MethodName := ⟨RX4, "<init>", "()V"⟩
def dkwX4_init_0 : List UInt8 := [42, 183, 0, 3, 42, 7, 188, 10, 181, 0, 9, 177]
abbrev dktX4_init_0 : List UInt8 := dkwX4_init_0 ++ []
theorem dksX4_init_0 : cX4_init.data.toList.drop 0 = dktX4_init_0 := by decide +kernel
theorem dX4_init_0 : decode cX4_init 0 = .ok (.aload_n 0, 1) := dk_42 (dk_at dksX4_init_0 0 rfl rfl)
theorem dX4_init_1 : decode cX4_init 1 = .ok (.invokespecial 3, 3) := dk_183 0 3 (dk_at dksX4_init_0 1 rfl rfl)
theorem dX4_init_4 : decode cX4_init 4 = .ok (.aload_n 0, 1) := dk_42 (dk_at dksX4_init_0 4 rfl rfl)
theorem dX4_init_5 : decode cX4_init 5 = .ok (.iconst 4, 1) := dk_7 (dk_at dksX4_init_0 5 rfl rfl)
theorem dX4_init_6 : decode cX4_init 6 = .ok (.newarray .int, 2) := dk_188_10 (dk_at dksX4_init_0 6 rfl rfl)
theorem dX4_init_8 : decode cX4_init 8 = .ok (.putfield 9, 3) := dk_181 0 9 (dk_at dksX4_init_0 8 rfl rfl)
theorem dX4_init_11 : decode cX4_init 11 = .ok (.return_, 1) := dk_177 (dk_at dksX4_init_0 11 rfl rfl)
abbrev cX4_be : ByteArray := prog_15_method_2_code
def yX4_be : MethodName := ⟨RX4, "be", "(LBorrowedLuck$Woman;)V"⟩
def dkwX4_be_1 : List UInt8 := [180, 0, 25, 181, 0, 25, 42, 43, 180, 0, 28, 181, 0, 28, 177]
abbrev dktX4_be_1 : List UInt8 := dkwX4_be_1 ++ []
def dkwX4_be_0 : List UInt8 := [43, 180, 0, 9, 3, 42, 180, 0, 9, 3, 7, 184, 0, 15, 42, 43, 180, 0, 21, 181, 0, 21, 42, 43]
abbrev dktX4_be_0 : List UInt8 := dkwX4_be_0 ++ dktX4_be_1
theorem dksX4_be_0 : cX4_be.data.toList.drop 0 = dktX4_be_0 := by decide +kernel
theorem dksX4_be_1 : cX4_be.data.toList.drop 24 = dktX4_be_1 := dk_seg dksX4_be_0 24 rfl rfl
theorem dX4_be_0 : decode cX4_be 0 = .ok (.aload_n 1, 1) := dk_43 (dk_at dksX4_be_0 0 rfl rfl)
theorem dX4_be_1 : decode cX4_be 1 = .ok (.getfield 9, 3) := dk_180 0 9 (dk_at dksX4_be_0 1 rfl rfl)
theorem dX4_be_4 : decode cX4_be 4 = .ok (.iconst 0, 1) := dk_3 (dk_at dksX4_be_0 4 rfl rfl)
theorem dX4_be_5 : decode cX4_be 5 = .ok (.aload_n 0, 1) := dk_42 (dk_at dksX4_be_0 5 rfl rfl)
theorem dX4_be_6 : decode cX4_be 6 = .ok (.getfield 9, 3) := dk_180 0 9 (dk_at dksX4_be_0 6 rfl rfl)
theorem dX4_be_9 : decode cX4_be 9 = .ok (.iconst 0, 1) := dk_3 (dk_at dksX4_be_0 9 rfl rfl)
theorem dX4_be_10 : decode cX4_be 10 = .ok (.iconst 4, 1) := dk_7 (dk_at dksX4_be_0 10 rfl rfl)
theorem dX4_be_11 : decode cX4_be 11 = .ok (.invokestatic 15, 3) := dk_184 0 15 (dk_at dksX4_be_0 11 rfl rfl)
theorem dX4_be_14 : decode cX4_be 14 = .ok (.aload_n 0, 1) := dk_42 (dk_at dksX4_be_0 14 rfl rfl)
theorem dX4_be_15 : decode cX4_be 15 = .ok (.aload_n 1, 1) := dk_43 (dk_at dksX4_be_0 15 rfl rfl)
theorem dX4_be_16 : decode cX4_be 16 = .ok (.getfield 21, 3) := dk_180 0 21 (dk_at dksX4_be_0 16 rfl rfl)
theorem dX4_be_19 : decode cX4_be 19 = .ok (.putfield 21, 3) := dk_181 0 21 (dk_at dksX4_be_0 19 rfl rfl)
theorem dX4_be_22 : decode cX4_be 22 = .ok (.aload_n 0, 1) := dk_42 (dk_at dksX4_be_0 22 rfl rfl)
theorem dX4_be_23 : decode cX4_be 23 = .ok (.aload_n 1, 1) := dk_43 (dk_at dksX4_be_0 23 rfl rfl)
theorem dX4_be_24 : decode cX4_be 24 = .ok (.getfield 25, 3) := dk_180 0 25 (dk_at dksX4_be_1 0 rfl rfl)
theorem dX4_be_27 : decode cX4_be 27 = .ok (.putfield 25, 3) := dk_181 0 25 (dk_at dksX4_be_1 3 rfl rfl)
theorem dX4_be_30 : decode cX4_be 30 = .ok (.aload_n 0, 1) := dk_42 (dk_at dksX4_be_1 6 rfl rfl)
theorem dX4_be_31 : decode cX4_be 31 = .ok (.aload_n 1, 1) := dk_43 (dk_at dksX4_be_1 7 rfl rfl)
theorem dX4_be_32 : decode cX4_be 32 = .ok (.getfield 28, 3) := dk_180 0 28 (dk_at dksX4_be_1 8 rfl rfl)
theorem dX4_be_35 : decode cX4_be 35 = .ok (.putfield 28, 3) := dk_181 0 28 (dk_at dksX4_be_1 11 rfl rfl)
theorem dX4_be_38 : decode cX4_be 38 = .ok (.return_, 1) := dk_177 (dk_at dksX4_be_1 14 rfl rfl)
theorem q125 : (Jvm.Cond.initialized "BorrowedLuck$Woman") ∈ lw_all := lw_g (lw_at lw_m1 4 rfl) rfl
theorem q193 : (Jvm.Cond.instantiable "BorrowedLuck$Woman" (4 : Nat)) ∈ lw_all := lw_g (lw_at lw_m1 72 rfl) rfl
theorem q195 : (Jvm.Cond.instanceMethod ({ cls := "BorrowedLuck$Woman", name := "<init>", desc := "()V" } : Jvm.MethodName)) ∈ lw_all := lw_g (lw_at lw_m1 74 rfl) rfl
theorem q196 : (Jvm.Cond.code ({ cls := "BorrowedLuck$Woman", name := "<init>", desc := "()V" } : Jvm.MethodName) prog_15_method_1_code (1 : Nat) (Option.none : Option Jvm.ClassFile.FieldType)) ∈ lw_all := lw_g (lw_at lw_m1 75 rfl) rfl
theorem q197 : (Jvm.Cond.methodLink "BorrowedLuck$Woman" (3 : Nat) ({ cls := "java/lang/Object", name := "<init>", desc := "()V" } : Jvm.MethodName)) ∈ lw_all := lw_g (lw_at lw_m1 76 rfl) rfl
theorem q198 : (Jvm.Cond.fieldLink "BorrowedLuck$Woman" (9 : Nat) "BorrowedLuck$Woman" "luck" "[I") ∈ lw_all := lw_g (lw_at lw_m1 77 rfl) rfl
theorem q202 : (Jvm.Cond.fieldLink "BorrowedLuck$Woman" (21 : Nat) "BorrowedLuck$Woman" "purse" "I") ∈ lw_all := lw_g (lw_at lw_m1 81 rfl) rfl
theorem q205 : (Jvm.Cond.fieldLink "BorrowedLuck$Woman" (25 : Nat) "BorrowedLuck$Woman" "wed" "I") ∈ lw_all := lw_g (lw_at lw_m1 84 rfl) rfl
theorem q209 : (Jvm.Cond.fieldLink "BorrowedLuck$Woman" (28 : Nat) "BorrowedLuck$Woman" "widow" "Z") ∈ lw_all := lw_g (lw_at lw_m1 88 rfl) rfl
theorem q213 : (Jvm.Cond.laysFinal "BorrowedLuck$Woman" "BorrowedLuck$Woman" "luck" "[I") ∈ lw_all := lw_g (lw_at lw_m1 92 rfl) rfl
theorem q214 : (Jvm.Cond.soleField "BorrowedLuck$Woman" "luck") ∈ lw_all := lw_g (lw_at lw_m1 93 rfl) rfl
theorem q215 : (Jvm.Cond.lays "BorrowedLuck$Woman" "BorrowedLuck$Woman" "purse" "I") ∈ lw_all := lw_g (lw_at lw_m1 94 rfl) rfl
theorem q216 : (Jvm.Cond.soleField "BorrowedLuck$Woman" "purse") ∈ lw_all := lw_g (lw_at lw_m1 95 rfl) rfl
theorem q217 : (Jvm.Cond.lays "BorrowedLuck$Woman" "BorrowedLuck$Woman" "wed" "I") ∈ lw_all := lw_g (lw_at lw_m1 96 rfl) rfl
theorem q218 : (Jvm.Cond.soleField "BorrowedLuck$Woman" "wed") ∈ lw_all := lw_g (lw_at lw_m1 97 rfl) rfl
theorem q219 : (Jvm.Cond.lays "BorrowedLuck$Woman" "BorrowedLuck$Woman" "widow" "Z") ∈ lw_all := lw_g (lw_at lw_m1 98 rfl) rfl
theorem q220 : (Jvm.Cond.soleField "BorrowedLuck$Woman" "widow") ∈ lw_all := lw_g (lw_at lw_m1 99 rfl) rfl
theorem q221 : (Jvm.Cond.superclass "BorrowedLuck$Woman" "java/lang/Object") ∈ lw_all := lw_g (lw_at lw_m1 100 rfl) rfl
theorem q592 : (Jvm.Cond.instanceMethod ({ cls := "BorrowedLuck$Woman", name := "be", desc := "(LBorrowedLuck$Woman;)V" } : Jvm.MethodName)) ∈ lw_all := lw_g (lw_at lw_m2 231 rfl) rfl
theorem q593 : (Jvm.Cond.selects "BorrowedLuck$Woman" ({ cls := "BorrowedLuck$Woman", name := "be", desc := "(LBorrowedLuck$Woman;)V" } : Jvm.MethodName) ({ cls := "BorrowedLuck$Woman", name := "be", desc := "(LBorrowedLuck$Woman;)V" } : Jvm.MethodName)) ∈ lw_all := lw_g (lw_at lw_m2 232 rfl) rfl
theorem q594 : (Jvm.Cond.code ({ cls := "BorrowedLuck$Woman", name := "be", desc := "(LBorrowedLuck$Woman;)V" } : Jvm.MethodName) prog_15_method_2_code (2 : Nat) (Option.none : Option Jvm.ClassFile.FieldType)) ∈ lw_all := lw_g (lw_at lw_m2 233 rfl) rfl
theorem q595 : (Jvm.Cond.methodLink "BorrowedLuck$Woman" (15 : Nat) ({ cls := "java/lang/System", name := "arraycopy", desc := "(Ljava/lang/Object;ILjava/lang/Object;II)V" } : Jvm.MethodName)) ∈ lw_all := lw_g (lw_at lw_m2 234 rfl) rfl
theorem q2093 : (Jvm.Cond.castable "BorrowedLuck$Woman" "java/lang/Object") ∈ lw_tbl := lw_at lw_m9 52 rfl
theorem in_X4 : ∀ w ∈ wsX40, w ∈ lw_all := lw_in wsX40 [213, 215, 217, 219] (by decide +kernel) (by decide +kernel)

/-! BorrowedLuck$Thing -/
set_option maxRecDepth 100000
def RX5 : String := "BorrowedLuck$Thing"
def TX5 : u_T := fun k => match k with
  | 0 => ("BorrowedLuck$Thing", "luck", "[I", true)
  | 1 => ("BorrowedLuck$Thing", "owner", "I", false)
  | 2 => ("BorrowedLuck$Thing", "holder", "I", false)
  | 3 => ("BorrowedLuck$Thing", "wear", "I", false)
  | 4 => ("BorrowedLuck$Thing", "stuck", "Z", false)
  | _ => ("BorrowedLuck$Thing", "blue", "Z", false)
def tyX5 : Nat → FieldType := fun k => match k with
  | 0 => .array .int
  | 1 => .int
  | 2 => .int
  | 3 => .int
  | 4 => .boolean
  | _ => .boolean
abbrev wsX50 : List Cond := u_ws RX5 TX5 6
theorem nmX5 : ∀ a, a < 6 → ∀ b, b < 6 → a ≠ b → (TX5 a).2.1 ≠ (TX5 b).2.1 := by decide +kernel
theorem tyX5_ok : ∀ k, k < 6 → parseFieldDescriptor (TX5 k).2.2.1 = some (tyX5 k) := by decide +kernel
abbrev cX5_init : ByteArray := prog_13_method_1_code
def yX5_init : MethodName := ⟨RX5, "<init>", "()V"⟩
def dkwX5_init_0 : List UInt8 := [42, 183, 0, 3, 42, 7, 188, 10, 181, 0, 9, 177]
abbrev dktX5_init_0 : List UInt8 := dkwX5_init_0 ++ []
theorem dksX5_init_0 : cX5_init.data.toList.drop 0 = dktX5_init_0 := by decide +kernel
theorem dX5_init_0 : decode cX5_init 0 = .ok (.aload_n 0, 1) := dk_42 (dk_at dksX5_init_0 0 rfl rfl)
theorem dX5_init_1 : decode cX5_init 1 = .ok (.invokespecial 3, 3) := dk_183 0 3 (dk_at dksX5_init_0 1 rfl rfl)
theorem dX5_init_4 : decode cX5_init 4 = .ok (.aload_n 0, 1) := dk_42 (dk_at dksX5_init_0 4 rfl rfl)
theorem dX5_init_5 : decode cX5_init 5 = .ok (.iconst 4, 1) := dk_7 (dk_at dksX5_init_0 5 rfl rfl)
theorem dX5_init_6 : decode cX5_init 6 = .ok (.newarray .int, 2) := dk_188_10 (dk_at dksX5_init_0 6 rfl rfl)
theorem dX5_init_8 : decode cX5_init 8 = .ok (.putfield 9, 3) := dk_181 0 9 (dk_at dksX5_init_0 8 rfl rfl)
theorem dX5_init_11 : decode cX5_init 11 = .ok (.return_, 1) := dk_177 (dk_at dksX5_init_0 11 rfl rfl)
abbrev cX5_worth : ByteArray := prog_13_method_3_code
def yX5_worth : MethodName := ⟨RX5, "worth", "()I"⟩
def dkwX5_worth_0 : List UInt8 := [42, 180, 0, 9, 184, 0, 38, 42, 180, 0, 28, 100, 172]
abbrev dktX5_worth_0 : List UInt8 := dkwX5_worth_0 ++ []
theorem dksX5_worth_0 : cX5_worth.data.toList.drop 0 = dktX5_worth_0 := by decide +kernel
theorem dX5_worth_0 : decode cX5_worth 0 = .ok (.aload_n 0, 1) := dk_42 (dk_at dksX5_worth_0 0 rfl rfl)
theorem dX5_worth_1 : decode cX5_worth 1 = .ok (.getfield 9, 3) := dk_180 0 9 (dk_at dksX5_worth_0 1 rfl rfl)
theorem dX5_worth_4 : decode cX5_worth 4 = .ok (.invokestatic 38, 3) := dk_184 0 38 (dk_at dksX5_worth_0 4 rfl rfl)
theorem dX5_worth_7 : decode cX5_worth 7 = .ok (.aload_n 0, 1) := dk_42 (dk_at dksX5_worth_0 7 rfl rfl)
theorem dX5_worth_8 : decode cX5_worth 8 = .ok (.getfield 28, 3) := dk_180 0 28 (dk_at dksX5_worth_0 8 rfl rfl)
theorem dX5_worth_11 : decode cX5_worth 11 = .ok (.isub, 1) := dk_100 (dk_at dksX5_worth_0 11 rfl rfl)
theorem dX5_worth_12 : decode cX5_worth 12 = .ok (.ireturn, 1) := dk_172 (dk_at dksX5_worth_0 12 rfl rfl)
abbrev cX5_isFreeFor : ByteArray := prog_13_method_4_code
def yX5_isFreeFor : MethodName := ⟨RX5, "isFreeFor", "(I)Z"⟩
def dkwX5_isFreeFor_1 : List UInt8 := [167, 0, 4, 3, 172]
abbrev dktX5_isFreeFor_1 : List UInt8 := dkwX5_isFreeFor_1 ++ []
def dkwX5_isFreeFor_0 : List UInt8 := [42, 180, 0, 25, 2, 159, 0, 22, 42, 180, 0, 31, 153, 0, 11, 42, 180, 0, 25, 27, 160, 0, 7, 4]
abbrev dktX5_isFreeFor_0 : List UInt8 := dkwX5_isFreeFor_0 ++ dktX5_isFreeFor_1
theorem dksX5_isFreeFor_0 : cX5_isFreeFor.data.toList.drop 0 = dktX5_isFreeFor_0 := by decide +kernel
theorem dksX5_isFreeFor_1 : cX5_isFreeFor.data.toList.drop 24 = dktX5_isFreeFor_1 := dk_seg dksX5_isFreeFor_0 24 rfl rfl
theorem dX5_isFreeFor_0 : decode cX5_isFreeFor 0 = .ok (.aload_n 0, 1) := dk_42 (dk_at dksX5_isFreeFor_0 0 rfl rfl)
theorem dX5_isFreeFor_1 : decode cX5_isFreeFor 1 = .ok (.getfield 25, 3) := dk_180 0 25 (dk_at dksX5_isFreeFor_0 1 rfl rfl)
theorem dX5_isFreeFor_4 : decode cX5_isFreeFor 4 = .ok (.iconst (-1), 1) := dk_2 (dk_at dksX5_isFreeFor_0 4 rfl rfl)
theorem dX5_isFreeFor_5 : decode cX5_isFreeFor 5 = .ok (.if_icmp .eq 22, 3) := dk_159 0 22 (dk_at dksX5_isFreeFor_0 5 rfl rfl)
theorem dX5_isFreeFor_8 : decode cX5_isFreeFor 8 = .ok (.aload_n 0, 1) := dk_42 (dk_at dksX5_isFreeFor_0 8 rfl rfl)
theorem dX5_isFreeFor_9 : decode cX5_isFreeFor 9 = .ok (.getfield 31, 3) := dk_180 0 31 (dk_at dksX5_isFreeFor_0 9 rfl rfl)
theorem dX5_isFreeFor_12 : decode cX5_isFreeFor 12 = .ok (.ifCond .eq 11, 3) := dk_153 0 11 (dk_at dksX5_isFreeFor_0 12 rfl rfl)
theorem dX5_isFreeFor_15 : decode cX5_isFreeFor 15 = .ok (.aload_n 0, 1) := dk_42 (dk_at dksX5_isFreeFor_0 15 rfl rfl)
theorem dX5_isFreeFor_16 : decode cX5_isFreeFor 16 = .ok (.getfield 25, 3) := dk_180 0 25 (dk_at dksX5_isFreeFor_0 16 rfl rfl)
theorem dX5_isFreeFor_19 : decode cX5_isFreeFor 19 = .ok (.iload_n 1, 1) := dk_27 (dk_at dksX5_isFreeFor_0 19 rfl rfl)
theorem dX5_isFreeFor_20 : decode cX5_isFreeFor 20 = .ok (.if_icmp .ne 7, 3) := dk_160 0 7 (dk_at dksX5_isFreeFor_0 20 rfl rfl)
theorem dX5_isFreeFor_23 : decode cX5_isFreeFor 23 = .ok (.iconst 1, 1) := dk_4 (dk_at dksX5_isFreeFor_0 23 rfl rfl)
theorem dX5_isFreeFor_24 : decode cX5_isFreeFor 24 = .ok (.goto 4, 3) := dk_167 0 4 (dk_at dksX5_isFreeFor_1 0 rfl rfl)
theorem dX5_isFreeFor_27 : decode cX5_isFreeFor 27 = .ok (.iconst 0, 1) := dk_3 (dk_at dksX5_isFreeFor_1 3 rfl rfl)
theorem dX5_isFreeFor_28 : decode cX5_isFreeFor 28 = .ok (.ireturn, 1) := dk_172 (dk_at dksX5_isFreeFor_1 4 rfl rfl)
abbrev cX5_be : ByteArray := prog_13_method_2_code
def yX5_be : MethodName := ⟨RX5, "be", "(LBorrowedLuck$Thing;)V"⟩
def dkwX5_be_2 : List UInt8 := [180, 0, 35, 181, 0, 35, 177]
abbrev dktX5_be_2 : List UInt8 := dkwX5_be_2 ++ []
def dkwX5_be_1 : List UInt8 := [180, 0, 25, 181, 0, 25, 42, 43, 180, 0, 28, 181, 0, 28, 42, 43, 180, 0, 31, 181, 0, 31, 42, 43]
abbrev dktX5_be_1 : List UInt8 := dkwX5_be_1 ++ dktX5_be_2
def dkwX5_be_0 : List UInt8 := [43, 180, 0, 9, 3, 42, 180, 0, 9, 3, 7, 184, 0, 15, 42, 43, 180, 0, 21, 181, 0, 21, 42, 43]
abbrev dktX5_be_0 : List UInt8 := dkwX5_be_0 ++ dktX5_be_1
theorem dksX5_be_0 : cX5_be.data.toList.drop 0 = dktX5_be_0 := by decide +kernel
theorem dksX5_be_1 : cX5_be.data.toList.drop 24 = dktX5_be_1 := dk_seg dksX5_be_0 24 rfl rfl
theorem dksX5_be_2 : cX5_be.data.toList.drop 48 = dktX5_be_2 := dk_seg dksX5_be_1 24 rfl rfl
theorem dX5_be_0 : decode cX5_be 0 = .ok (.aload_n 1, 1) := dk_43 (dk_at dksX5_be_0 0 rfl rfl)
theorem dX5_be_1 : decode cX5_be 1 = .ok (.getfield 9, 3) := dk_180 0 9 (dk_at dksX5_be_0 1 rfl rfl)
theorem dX5_be_4 : decode cX5_be 4 = .ok (.iconst 0, 1) := dk_3 (dk_at dksX5_be_0 4 rfl rfl)
theorem dX5_be_5 : decode cX5_be 5 = .ok (.aload_n 0, 1) := dk_42 (dk_at dksX5_be_0 5 rfl rfl)
theorem dX5_be_6 : decode cX5_be 6 = .ok (.getfield 9, 3) := dk_180 0 9 (dk_at dksX5_be_0 6 rfl rfl)
theorem dX5_be_9 : decode cX5_be 9 = .ok (.iconst 0, 1) := dk_3 (dk_at dksX5_be_0 9 rfl rfl)
theorem dX5_be_10 : decode cX5_be 10 = .ok (.iconst 4, 1) := dk_7 (dk_at dksX5_be_0 10 rfl rfl)
theorem dX5_be_11 : decode cX5_be 11 = .ok (.invokestatic 15, 3) := dk_184 0 15 (dk_at dksX5_be_0 11 rfl rfl)
theorem dX5_be_14 : decode cX5_be 14 = .ok (.aload_n 0, 1) := dk_42 (dk_at dksX5_be_0 14 rfl rfl)
theorem dX5_be_15 : decode cX5_be 15 = .ok (.aload_n 1, 1) := dk_43 (dk_at dksX5_be_0 15 rfl rfl)
theorem dX5_be_16 : decode cX5_be 16 = .ok (.getfield 21, 3) := dk_180 0 21 (dk_at dksX5_be_0 16 rfl rfl)
theorem dX5_be_19 : decode cX5_be 19 = .ok (.putfield 21, 3) := dk_181 0 21 (dk_at dksX5_be_0 19 rfl rfl)
theorem dX5_be_22 : decode cX5_be 22 = .ok (.aload_n 0, 1) := dk_42 (dk_at dksX5_be_0 22 rfl rfl)
theorem dX5_be_23 : decode cX5_be 23 = .ok (.aload_n 1, 1) := dk_43 (dk_at dksX5_be_0 23 rfl rfl)
theorem dX5_be_24 : decode cX5_be 24 = .ok (.getfield 25, 3) := dk_180 0 25 (dk_at dksX5_be_1 0 rfl rfl)
theorem dX5_be_27 : decode cX5_be 27 = .ok (.putfield 25, 3) := dk_181 0 25 (dk_at dksX5_be_1 3 rfl rfl)
theorem dX5_be_30 : decode cX5_be 30 = .ok (.aload_n 0, 1) := dk_42 (dk_at dksX5_be_1 6 rfl rfl)
theorem dX5_be_31 : decode cX5_be 31 = .ok (.aload_n 1, 1) := dk_43 (dk_at dksX5_be_1 7 rfl rfl)
theorem dX5_be_32 : decode cX5_be 32 = .ok (.getfield 28, 3) := dk_180 0 28 (dk_at dksX5_be_1 8 rfl rfl)
theorem dX5_be_35 : decode cX5_be 35 = .ok (.putfield 28, 3) := dk_181 0 28 (dk_at dksX5_be_1 11 rfl rfl)
theorem dX5_be_38 : decode cX5_be 38 = .ok (.aload_n 0, 1) := dk_42 (dk_at dksX5_be_1 14 rfl rfl)
theorem dX5_be_39 : decode cX5_be 39 = .ok (.aload_n 1, 1) := dk_43 (dk_at dksX5_be_1 15 rfl rfl)
theorem dX5_be_40 : decode cX5_be 40 = .ok (.getfield 31, 3) := dk_180 0 31 (dk_at dksX5_be_1 16 rfl rfl)
theorem dX5_be_43 : decode cX5_be 43 = .ok (.putfield 31, 3) := dk_181 0 31 (dk_at dksX5_be_1 19 rfl rfl)
theorem dX5_be_46 : decode cX5_be 46 = .ok (.aload_n 0, 1) := dk_42 (dk_at dksX5_be_1 22 rfl rfl)
theorem dX5_be_47 : decode cX5_be 47 = .ok (.aload_n 1, 1) := dk_43 (dk_at dksX5_be_1 23 rfl rfl)
theorem dX5_be_48 : decode cX5_be 48 = .ok (.getfield 35, 3) := dk_180 0 35 (dk_at dksX5_be_2 0 rfl rfl)
theorem dX5_be_51 : decode cX5_be 51 = .ok (.putfield 35, 3) := dk_181 0 35 (dk_at dksX5_be_2 3 rfl rfl)
theorem dX5_be_54 : decode cX5_be 54 = .ok (.return_, 1) := dk_177 (dk_at dksX5_be_2 6 rfl rfl)
theorem q126 : (Jvm.Cond.initialized "BorrowedLuck$Thing") ∈ lw_all := lw_g (lw_at lw_m1 5 rfl) rfl
theorem q224 : (Jvm.Cond.instantiable "BorrowedLuck$Thing" (6 : Nat)) ∈ lw_all := lw_g (lw_at lw_m1 103 rfl) rfl
theorem q226 : (Jvm.Cond.instanceMethod ({ cls := "BorrowedLuck$Thing", name := "<init>", desc := "()V" } : Jvm.MethodName)) ∈ lw_all := lw_g (lw_at lw_m1 105 rfl) rfl
theorem q227 : (Jvm.Cond.code ({ cls := "BorrowedLuck$Thing", name := "<init>", desc := "()V" } : Jvm.MethodName) prog_13_method_1_code (1 : Nat) (Option.none : Option Jvm.ClassFile.FieldType)) ∈ lw_all := lw_g (lw_at lw_m1 106 rfl) rfl
theorem q228 : (Jvm.Cond.methodLink "BorrowedLuck$Thing" (3 : Nat) ({ cls := "java/lang/Object", name := "<init>", desc := "()V" } : Jvm.MethodName)) ∈ lw_all := lw_g (lw_at lw_m1 107 rfl) rfl
theorem q229 : (Jvm.Cond.fieldLink "BorrowedLuck$Thing" (9 : Nat) "BorrowedLuck$Thing" "luck" "[I") ∈ lw_all := lw_g (lw_at lw_m1 108 rfl) rfl
theorem q233 : (Jvm.Cond.fieldLink "BorrowedLuck$Thing" (21 : Nat) "BorrowedLuck$Thing" "owner" "I") ∈ lw_all := lw_g (lw_at lw_m1 112 rfl) rfl
theorem q237 : (Jvm.Cond.fieldLink "BorrowedLuck$Thing" (25 : Nat) "BorrowedLuck$Thing" "holder" "I") ∈ lw_all := lw_g (lw_at lw_m1 116 rfl) rfl
theorem q241 : (Jvm.Cond.fieldLink "BorrowedLuck$Thing" (28 : Nat) "BorrowedLuck$Thing" "wear" "I") ∈ lw_all := lw_g (lw_at lw_m1 120 rfl) rfl
theorem q245 : (Jvm.Cond.fieldLink "BorrowedLuck$Thing" (31 : Nat) "BorrowedLuck$Thing" "stuck" "Z") ∈ lw_all := lw_g (lw_at lw_m1 124 rfl) rfl
theorem q249 : (Jvm.Cond.fieldLink "BorrowedLuck$Thing" (35 : Nat) "BorrowedLuck$Thing" "blue" "Z") ∈ lw_all := lw_g (lw_at lw_m1 128 rfl) rfl
theorem q253 : (Jvm.Cond.laysFinal "BorrowedLuck$Thing" "BorrowedLuck$Thing" "luck" "[I") ∈ lw_all := lw_g (lw_at lw_m1 132 rfl) rfl
theorem q254 : (Jvm.Cond.soleField "BorrowedLuck$Thing" "luck") ∈ lw_all := lw_g (lw_at lw_m1 133 rfl) rfl
theorem q255 : (Jvm.Cond.lays "BorrowedLuck$Thing" "BorrowedLuck$Thing" "owner" "I") ∈ lw_all := lw_g (lw_at lw_m1 134 rfl) rfl
theorem q256 : (Jvm.Cond.soleField "BorrowedLuck$Thing" "owner") ∈ lw_all := lw_g (lw_at lw_m1 135 rfl) rfl
theorem q257 : (Jvm.Cond.lays "BorrowedLuck$Thing" "BorrowedLuck$Thing" "holder" "I") ∈ lw_all := lw_g (lw_at lw_m1 136 rfl) rfl
theorem q258 : (Jvm.Cond.soleField "BorrowedLuck$Thing" "holder") ∈ lw_all := lw_g (lw_at lw_m1 137 rfl) rfl
theorem q259 : (Jvm.Cond.lays "BorrowedLuck$Thing" "BorrowedLuck$Thing" "wear" "I") ∈ lw_all := lw_g (lw_at lw_m1 138 rfl) rfl
theorem q260 : (Jvm.Cond.soleField "BorrowedLuck$Thing" "wear") ∈ lw_all := lw_g (lw_at lw_m1 139 rfl) rfl
theorem q261 : (Jvm.Cond.lays "BorrowedLuck$Thing" "BorrowedLuck$Thing" "stuck" "Z") ∈ lw_all := lw_g (lw_at lw_m1 140 rfl) rfl
theorem q262 : (Jvm.Cond.soleField "BorrowedLuck$Thing" "stuck") ∈ lw_all := lw_g (lw_at lw_m1 141 rfl) rfl
theorem q263 : (Jvm.Cond.lays "BorrowedLuck$Thing" "BorrowedLuck$Thing" "blue" "Z") ∈ lw_all := lw_g (lw_at lw_m1 142 rfl) rfl
theorem q264 : (Jvm.Cond.soleField "BorrowedLuck$Thing" "blue") ∈ lw_all := lw_g (lw_at lw_m1 143 rfl) rfl
theorem q265 : (Jvm.Cond.superclass "BorrowedLuck$Thing" "java/lang/Object") ∈ lw_all := lw_g (lw_at lw_m1 144 rfl) rfl
theorem q524 : (Jvm.Cond.instanceMethod ({ cls := "BorrowedLuck$Thing", name := "worth", desc := "()I" } : Jvm.MethodName)) ∈ lw_all := lw_g (lw_at lw_m2 163 rfl) rfl
theorem q525 : (Jvm.Cond.selects "BorrowedLuck$Thing" ({ cls := "BorrowedLuck$Thing", name := "worth", desc := "()I" } : Jvm.MethodName) ({ cls := "BorrowedLuck$Thing", name := "worth", desc := "()I" } : Jvm.MethodName)) ∈ lw_all := lw_g (lw_at lw_m2 164 rfl) rfl
theorem q526 : (Jvm.Cond.code ({ cls := "BorrowedLuck$Thing", name := "worth", desc := "()I" } : Jvm.MethodName) prog_13_method_3_code (1 : Nat) (Option.some Jvm.ClassFile.FieldType.int)) ∈ lw_all := lw_g (lw_at lw_m2 165 rfl) rfl
theorem q527 : (Jvm.Cond.methodLinkNest "BorrowedLuck$Thing" (38 : Nat) ({ cls := "BorrowedLuck", name := "sum", desc := "([I)I" } : Jvm.MethodName) "BorrowedLuck") ∈ lw_tbl := lw_at lw_m2 166 rfl
theorem q576 : (Jvm.Cond.instanceMethod ({ cls := "BorrowedLuck$Thing", name := "isFreeFor", desc := "(I)Z" } : Jvm.MethodName)) ∈ lw_all := lw_g (lw_at lw_m2 215 rfl) rfl
theorem q577 : (Jvm.Cond.selects "BorrowedLuck$Thing" ({ cls := "BorrowedLuck$Thing", name := "isFreeFor", desc := "(I)Z" } : Jvm.MethodName) ({ cls := "BorrowedLuck$Thing", name := "isFreeFor", desc := "(I)Z" } : Jvm.MethodName)) ∈ lw_all := lw_g (lw_at lw_m2 216 rfl) rfl
theorem q578 : (Jvm.Cond.code ({ cls := "BorrowedLuck$Thing", name := "isFreeFor", desc := "(I)Z" } : Jvm.MethodName) prog_13_method_4_code (2 : Nat) (Option.some Jvm.ClassFile.FieldType.boolean)) ∈ lw_all := lw_g (lw_at lw_m2 217 rfl) rfl
theorem q599 : (Jvm.Cond.instanceMethod ({ cls := "BorrowedLuck$Thing", name := "be", desc := "(LBorrowedLuck$Thing;)V" } : Jvm.MethodName)) ∈ lw_all := lw_g (lw_at lw_m2 238 rfl) rfl
theorem q600 : (Jvm.Cond.selects "BorrowedLuck$Thing" ({ cls := "BorrowedLuck$Thing", name := "be", desc := "(LBorrowedLuck$Thing;)V" } : Jvm.MethodName) ({ cls := "BorrowedLuck$Thing", name := "be", desc := "(LBorrowedLuck$Thing;)V" } : Jvm.MethodName)) ∈ lw_all := lw_g (lw_at lw_m2 239 rfl) rfl
theorem q601 : (Jvm.Cond.code ({ cls := "BorrowedLuck$Thing", name := "be", desc := "(LBorrowedLuck$Thing;)V" } : Jvm.MethodName) prog_13_method_2_code (2 : Nat) (Option.none : Option Jvm.ClassFile.FieldType)) ∈ lw_all := lw_g (lw_at lw_m3 0 rfl) rfl
theorem q602 : (Jvm.Cond.methodLink "BorrowedLuck$Thing" (15 : Nat) ({ cls := "java/lang/System", name := "arraycopy", desc := "(Ljava/lang/Object;ILjava/lang/Object;II)V" } : Jvm.MethodName)) ∈ lw_all := lw_g (lw_at lw_m3 1 rfl) rfl
theorem q2094 : (Jvm.Cond.castable "BorrowedLuck$Thing" "java/lang/Object") ∈ lw_tbl := lw_at lw_m9 53 rfl
theorem in_X5 : ∀ w ∈ wsX50, w ∈ lw_all := lw_in wsX50 [253, 255, 257, 259, 261, 263] (by decide +kernel) (by decide +kernel)

/-! BorrowedLuck$Wrong -/
set_option maxRecDepth 100000
def RX6 : String := "BorrowedLuck$Wrong"
def TX6 : u_T := fun k => match k with
  | 0 => ("java/lang/Throwable", "cause", "Ljava/lang/Throwable;", false)
  | 1 => ("java/lang/Throwable", "stackTrace", "[Ljava/lang/StackTraceElement;", false)
  | 2 => ("java/lang/Throwable", "suppressedExceptions", "Ljava/util/List;", false)
  | 3 => ("java/lang/Throwable", "detailMessage", "Ljava/lang/String;", false)
  | 4 => ("java/lang/Throwable", "backtrace", "Ljava/lang/Object;", false)
  | 5 => ("java/lang/Throwable", "depth", "I", false)
  | _ => ("BorrowedLuck$Wrong", "place", "I", false)
def tyX6 : Nat → FieldType := fun k => match k with
  | 0 => .object "java/lang/Throwable"
  | 1 => .array (.object "java/lang/StackTraceElement")
  | 2 => .object "java/util/List"
  | 3 => .object "java/lang/String"
  | 4 => .object "java/lang/Object"
  | 5 => .int
  | _ => .int
abbrev wsX60 : List Cond := u_ws RX6 TX6 7
theorem nmX6 : ∀ a, a < 7 → ∀ b, b < 7 → a ≠ b → (TX6 a).2.1 ≠ (TX6 b).2.1 := by decide +kernel
theorem tyX6_ok : ∀ k, k < 7 → parseFieldDescriptor (TX6 k).2.2.1 = some (tyX6 k) := by decide +kernel
abbrev cX6_init : ByteArray := prog_16_method_1_code
def yX6_init : MethodName := ⟨RX6, "<init>", "()V"⟩
def dkwX6_init_0 : List UInt8 := [42, 1, 1, 3, 3, 183, 0, 1, 177]
abbrev dktX6_init_0 : List UInt8 := dkwX6_init_0 ++ []
theorem dksX6_init_0 : cX6_init.data.toList.drop 0 = dktX6_init_0 := by decide +kernel
theorem dX6_init_0 : decode cX6_init 0 = .ok (.aload_n 0, 1) := dk_42 (dk_at dksX6_init_0 0 rfl rfl)
theorem dX6_init_1 : decode cX6_init 1 = .ok (.aconst_null, 1) := dk_1 (dk_at dksX6_init_0 1 rfl rfl)
theorem dX6_init_2 : decode cX6_init 2 = .ok (.aconst_null, 1) := dk_1 (dk_at dksX6_init_0 2 rfl rfl)
theorem dX6_init_3 : decode cX6_init 3 = .ok (.iconst 0, 1) := dk_3 (dk_at dksX6_init_0 3 rfl rfl)
theorem dX6_init_4 : decode cX6_init 4 = .ok (.iconst 0, 1) := dk_3 (dk_at dksX6_init_0 4 rfl rfl)
theorem dX6_init_5 : decode cX6_init 5 = .ok (.invokespecial 1, 3) := dk_183 0 1 (dk_at dksX6_init_0 5 rfl rfl)
theorem dX6_init_8 : decode cX6_init 8 = .ok (.return_, 1) := dk_177 (dk_at dksX6_init_0 8 rfl rfl)
theorem q130 : (Jvm.Cond.initialized "BorrowedLuck$Wrong") ∈ lw_all := lw_g (lw_at lw_m1 9 rfl) rfl
theorem q332 : (Jvm.Cond.instantiable "BorrowedLuck$Wrong" (7 : Nat)) ∈ lw_all := lw_g (lw_at lw_m1 211 rfl) rfl
theorem q333 : (Jvm.Cond.castable "BorrowedLuck$Wrong" "BorrowedLuck$Wrong") ∈ lw_tbl := lw_at lw_m1 212 rfl
theorem q340 : (Jvm.Cond.selects "BorrowedLuck$Wrong" ({ cls := "java/lang/Throwable", name := "fillInStackTrace", desc := "(I)Ljava/lang/Throwable;" } : Jvm.MethodName) ({ cls := "java/lang/Throwable", name := "fillInStackTrace", desc := "(I)Ljava/lang/Throwable;" } : Jvm.MethodName)) ∈ lw_all := lw_g (lw_at lw_m1 219 rfl) rfl
theorem q341 : (Jvm.Cond.selects "BorrowedLuck$Wrong" ({ cls := "java/lang/Throwable", name := "fillInStackTrace", desc := "()Ljava/lang/Throwable;" } : Jvm.MethodName) ({ cls := "java/lang/Throwable", name := "fillInStackTrace", desc := "()Ljava/lang/Throwable;" } : Jvm.MethodName)) ∈ lw_all := lw_g (lw_at lw_m1 220 rfl) rfl
theorem q342 : (Jvm.Cond.lays "BorrowedLuck$Wrong" "java/lang/Throwable" "cause" "Ljava/lang/Throwable;") ∈ lw_all := lw_g (lw_at lw_m1 221 rfl) rfl
theorem q344 : (Jvm.Cond.lays "BorrowedLuck$Wrong" "java/lang/Throwable" "stackTrace" "[Ljava/lang/StackTraceElement;") ∈ lw_all := lw_g (lw_at lw_m1 223 rfl) rfl
theorem q346 : (Jvm.Cond.lays "BorrowedLuck$Wrong" "java/lang/Throwable" "suppressedExceptions" "Ljava/util/List;") ∈ lw_all := lw_g (lw_at lw_m1 225 rfl) rfl
theorem q348 : (Jvm.Cond.lays "BorrowedLuck$Wrong" "java/lang/Throwable" "detailMessage" "Ljava/lang/String;") ∈ lw_all := lw_g (lw_at lw_m1 227 rfl) rfl
theorem q350 : (Jvm.Cond.lays "BorrowedLuck$Wrong" "java/lang/Throwable" "backtrace" "Ljava/lang/Object;") ∈ lw_all := lw_g (lw_at lw_m1 229 rfl) rfl
theorem q377 : (Jvm.Cond.instanceMethod ({ cls := "BorrowedLuck$Wrong", name := "<init>", desc := "()V" } : Jvm.MethodName)) ∈ lw_all := lw_g (lw_at lw_m2 16 rfl) rfl
theorem q378 : (Jvm.Cond.code ({ cls := "BorrowedLuck$Wrong", name := "<init>", desc := "()V" } : Jvm.MethodName) prog_16_method_1_code (1 : Nat) (Option.none : Option Jvm.ClassFile.FieldType)) ∈ lw_all := lw_g (lw_at lw_m2 17 rfl) rfl
theorem q379 : (Jvm.Cond.methodLink "BorrowedLuck$Wrong" (1 : Nat) ({ cls := "java/lang/RuntimeException", name := "<init>", desc := "(Ljava/lang/String;Ljava/lang/Throwable;ZZ)V" } : Jvm.MethodName)) ∈ lw_all := lw_g (lw_at lw_m2 18 rfl) rfl
theorem q395 : (Jvm.Cond.lays "BorrowedLuck$Wrong" "BorrowedLuck$Wrong" "place" "I") ∈ lw_all := lw_g (lw_at lw_m2 34 rfl) rfl
theorem q396 : (Jvm.Cond.soleField "BorrowedLuck$Wrong" "place") ∈ lw_all := lw_g (lw_at lw_m2 35 rfl) rfl
theorem q401 : (Jvm.Cond.lays "BorrowedLuck$Wrong" "java/lang/Throwable" "depth" "I") ∈ lw_all := lw_g (lw_at lw_m2 40 rfl) rfl
theorem q404 : (Jvm.Cond.superclass "BorrowedLuck$Wrong" "java/lang/RuntimeException") ∈ lw_all := lw_g (lw_at lw_m2 43 rfl) rfl
theorem q2095 : (Jvm.Cond.castable "BorrowedLuck$Wrong" "java/lang/Object") ∈ lw_tbl := lw_at lw_m9 54 rfl
theorem in_X6 : ∀ w ∈ wsX60, w ∈ lw_all := lw_in wsX60 [342, 344, 346, 348, 350, 401, 395] (by decide +kernel) (by decide +kernel)

/-! BorrowedLuck$Chain -/
set_option maxRecDepth 100000
def RX8 : String := "BorrowedLuck$Chain"
def TX8 : u_T := fun k => match k with
  | 0 => ("BorrowedLuck$Chain", "one", "LBorrowedLuck$Cond;", true)
  | 1 => ("BorrowedLuck$Chain", "all", "Z", true)
  | _ => ("BorrowedLuck$Chain", "next", "LBorrowedLuck$Chain;", false)
def tyX8 : Nat → FieldType := fun k => match k with
  | 0 => .object "BorrowedLuck$Cond"
  | 1 => .boolean
  | _ => .object "BorrowedLuck$Chain"
abbrev wsX80 : List Cond := u_ws RX8 TX8 3
theorem nmX8 : ∀ a, a < 3 → ∀ b, b < 3 → a ≠ b → (TX8 a).2.1 ≠ (TX8 b).2.1 := by decide +kernel
theorem tyX8_ok : ∀ k, k < 3 → parseFieldDescriptor (TX8 k).2.2.1 = some (tyX8 k) := by decide +kernel
abbrev cX8_init : ByteArray := prog_2_method_1_code
def yX8_init : MethodName := ⟨RX8, "<init>", "(LBorrowedLuck$Cond;Z)V"⟩
def dkwX8_init_0 : List UInt8 := [42, 183, 0, 1, 42, 43, 181, 0, 7, 42, 28, 181, 0, 13, 177]
abbrev dktX8_init_0 : List UInt8 := dkwX8_init_0 ++ []
theorem dksX8_init_0 : cX8_init.data.toList.drop 0 = dktX8_init_0 := by decide +kernel
theorem dX8_init_0 : decode cX8_init 0 = .ok (.aload_n 0, 1) := dk_42 (dk_at dksX8_init_0 0 rfl rfl)
theorem dX8_init_1 : decode cX8_init 1 = .ok (.invokespecial 1, 3) := dk_183 0 1 (dk_at dksX8_init_0 1 rfl rfl)
theorem dX8_init_4 : decode cX8_init 4 = .ok (.aload_n 0, 1) := dk_42 (dk_at dksX8_init_0 4 rfl rfl)
theorem dX8_init_5 : decode cX8_init 5 = .ok (.aload_n 1, 1) := dk_43 (dk_at dksX8_init_0 5 rfl rfl)
theorem dX8_init_6 : decode cX8_init 6 = .ok (.putfield 7, 3) := dk_181 0 7 (dk_at dksX8_init_0 6 rfl rfl)
theorem dX8_init_9 : decode cX8_init 9 = .ok (.aload_n 0, 1) := dk_42 (dk_at dksX8_init_0 9 rfl rfl)
theorem dX8_init_10 : decode cX8_init 10 = .ok (.iload_n 2, 1) := dk_28 (dk_at dksX8_init_0 10 rfl rfl)
theorem dX8_init_11 : decode cX8_init 11 = .ok (.putfield 13, 3) := dk_181 0 13 (dk_at dksX8_init_0 11 rfl rfl)
theorem dX8_init_14 : decode cX8_init 14 = .ok (.return_, 1) := dk_177 (dk_at dksX8_init_0 14 rfl rfl)
abbrev cX8_holds : ByteArray := prog_2_method_2_code
def yX8_holds : MethodName := ⟨RX8, "holds", "([I)Z"⟩
def dkwX8_holds_2 : List UInt8 := [172]
abbrev dktX8_holds_2 : List UInt8 := dkwX8_holds_2 ++ []
def dkwX8_holds_1 : List UInt8 := [180, 0, 13, 154, 0, 7, 4, 167, 0, 4, 3, 172, 44, 180, 0, 23, 77, 167, 255, 217, 42, 180, 0, 13]
abbrev dktX8_holds_1 : List UInt8 := dkwX8_holds_1 ++ dktX8_holds_2
def dkwX8_holds_0 : List UInt8 := [42, 77, 44, 198, 0, 41, 44, 180, 0, 7, 43, 185, 0, 17, 2, 0, 42, 180, 0, 13, 159, 0, 16, 42]
abbrev dktX8_holds_0 : List UInt8 := dkwX8_holds_0 ++ dktX8_holds_1
theorem dksX8_holds_0 : cX8_holds.data.toList.drop 0 = dktX8_holds_0 := by decide +kernel
theorem dksX8_holds_1 : cX8_holds.data.toList.drop 24 = dktX8_holds_1 := dk_seg dksX8_holds_0 24 rfl rfl
theorem dksX8_holds_2 : cX8_holds.data.toList.drop 48 = dktX8_holds_2 := dk_seg dksX8_holds_1 24 rfl rfl
theorem dX8_holds_0 : decode cX8_holds 0 = .ok (.aload_n 0, 1) := dk_42 (dk_at dksX8_holds_0 0 rfl rfl)
theorem dX8_holds_1 : decode cX8_holds 1 = .ok (.astore_n 2, 1) := dk_77 (dk_at dksX8_holds_0 1 rfl rfl)
theorem dX8_holds_2 : decode cX8_holds 2 = .ok (.aload_n 2, 1) := dk_44 (dk_at dksX8_holds_0 2 rfl rfl)
theorem dX8_holds_3 : decode cX8_holds 3 = .ok (.ifnull 41, 3) := dk_198 0 41 (dk_at dksX8_holds_0 3 rfl rfl)
theorem dX8_holds_6 : decode cX8_holds 6 = .ok (.aload_n 2, 1) := dk_44 (dk_at dksX8_holds_0 6 rfl rfl)
theorem dX8_holds_7 : decode cX8_holds 7 = .ok (.getfield 7, 3) := dk_180 0 7 (dk_at dksX8_holds_0 7 rfl rfl)
theorem dX8_holds_10 : decode cX8_holds 10 = .ok (.aload_n 1, 1) := dk_43 (dk_at dksX8_holds_0 10 rfl rfl)
theorem dX8_holds_11 : decode cX8_holds 11 = .ok (.invokeinterface 17 2, 5) := by decide +kernel
theorem dX8_holds_16 : decode cX8_holds 16 = .ok (.aload_n 0, 1) := dk_42 (dk_at dksX8_holds_0 16 rfl rfl)
theorem dX8_holds_17 : decode cX8_holds 17 = .ok (.getfield 13, 3) := dk_180 0 13 (dk_at dksX8_holds_0 17 rfl rfl)
theorem dX8_holds_20 : decode cX8_holds 20 = .ok (.if_icmp .eq 16, 3) := dk_159 0 16 (dk_at dksX8_holds_0 20 rfl rfl)
theorem dX8_holds_23 : decode cX8_holds 23 = .ok (.aload_n 0, 1) := dk_42 (dk_at dksX8_holds_0 23 rfl rfl)
theorem dX8_holds_24 : decode cX8_holds 24 = .ok (.getfield 13, 3) := dk_180 0 13 (dk_at dksX8_holds_1 0 rfl rfl)
theorem dX8_holds_27 : decode cX8_holds 27 = .ok (.ifCond .ne 7, 3) := dk_154 0 7 (dk_at dksX8_holds_1 3 rfl rfl)
theorem dX8_holds_30 : decode cX8_holds 30 = .ok (.iconst 1, 1) := dk_4 (dk_at dksX8_holds_1 6 rfl rfl)
theorem dX8_holds_31 : decode cX8_holds 31 = .ok (.goto 4, 3) := dk_167 0 4 (dk_at dksX8_holds_1 7 rfl rfl)
theorem dX8_holds_34 : decode cX8_holds 34 = .ok (.iconst 0, 1) := dk_3 (dk_at dksX8_holds_1 10 rfl rfl)
theorem dX8_holds_35 : decode cX8_holds 35 = .ok (.ireturn, 1) := dk_172 (dk_at dksX8_holds_1 11 rfl rfl)
theorem dX8_holds_36 : decode cX8_holds 36 = .ok (.aload_n 2, 1) := dk_44 (dk_at dksX8_holds_1 12 rfl rfl)
theorem dX8_holds_37 : decode cX8_holds 37 = .ok (.getfield 23, 3) := dk_180 0 23 (dk_at dksX8_holds_1 13 rfl rfl)
theorem dX8_holds_40 : decode cX8_holds 40 = .ok (.astore_n 2, 1) := dk_77 (dk_at dksX8_holds_1 16 rfl rfl)
theorem dX8_holds_41 : decode cX8_holds 41 = .ok (.goto (-39), 3) := dk_167 255 217 (dk_at dksX8_holds_1 17 rfl rfl)
theorem dX8_holds_44 : decode cX8_holds 44 = .ok (.aload_n 0, 1) := dk_42 (dk_at dksX8_holds_1 20 rfl rfl)
theorem dX8_holds_45 : decode cX8_holds 45 = .ok (.getfield 13, 3) := dk_180 0 13 (dk_at dksX8_holds_1 21 rfl rfl)
theorem dX8_holds_48 : decode cX8_holds 48 = .ok (.ireturn, 1) := dk_172 (dk_at dksX8_holds_2 0 rfl rfl)
theorem q139 : (Jvm.Cond.initialized "BorrowedLuck$Chain") ∈ lw_all := lw_g (lw_at lw_m1 18 rfl) rfl
theorem q820 : (Jvm.Cond.instantiable "BorrowedLuck$Chain" (3 : Nat)) ∈ lw_all := lw_g (lw_at lw_m3 219 rfl) rfl
theorem q891 : (Jvm.Cond.instanceMethod ({ cls := "BorrowedLuck$Chain", name := "<init>", desc := "(LBorrowedLuck$Cond;Z)V" } : Jvm.MethodName)) ∈ lw_all := lw_g (lw_at lw_m4 50 rfl) rfl
theorem q892 : (Jvm.Cond.code ({ cls := "BorrowedLuck$Chain", name := "<init>", desc := "(LBorrowedLuck$Cond;Z)V" } : Jvm.MethodName) prog_2_method_1_code (3 : Nat) (Option.none : Option Jvm.ClassFile.FieldType)) ∈ lw_all := lw_g (lw_at lw_m4 51 rfl) rfl
theorem q893 : (Jvm.Cond.methodLink "BorrowedLuck$Chain" (1 : Nat) ({ cls := "java/lang/Object", name := "<init>", desc := "()V" } : Jvm.MethodName)) ∈ lw_all := lw_g (lw_at lw_m4 52 rfl) rfl
theorem q894 : (Jvm.Cond.fieldLink "BorrowedLuck$Chain" (7 : Nat) "BorrowedLuck$Chain" "one" "LBorrowedLuck$Cond;") ∈ lw_all := lw_g (lw_at lw_m4 53 rfl) rfl
theorem q895 : (Jvm.Cond.fieldLink "BorrowedLuck$Chain" (13 : Nat) "BorrowedLuck$Chain" "all" "Z") ∈ lw_all := lw_g (lw_at lw_m4 54 rfl) rfl
theorem q896 : (Jvm.Cond.fieldLink "BorrowedLuck$Chain" (23 : Nat) "BorrowedLuck$Chain" "next" "LBorrowedLuck$Chain;") ∈ lw_all := lw_g (lw_at lw_m4 55 rfl) rfl
theorem q898 : (Jvm.Cond.laysFinal "BorrowedLuck$Chain" "BorrowedLuck$Chain" "one" "LBorrowedLuck$Cond;") ∈ lw_all := lw_g (lw_at lw_m4 57 rfl) rfl
theorem q899 : (Jvm.Cond.soleField "BorrowedLuck$Chain" "one") ∈ lw_all := lw_g (lw_at lw_m4 58 rfl) rfl
theorem q900 : (Jvm.Cond.laysFinal "BorrowedLuck$Chain" "BorrowedLuck$Chain" "all" "Z") ∈ lw_all := lw_g (lw_at lw_m4 59 rfl) rfl
theorem q901 : (Jvm.Cond.soleField "BorrowedLuck$Chain" "all") ∈ lw_all := lw_g (lw_at lw_m4 60 rfl) rfl
theorem q902 : (Jvm.Cond.lays "BorrowedLuck$Chain" "BorrowedLuck$Chain" "next" "LBorrowedLuck$Chain;") ∈ lw_all := lw_g (lw_at lw_m4 61 rfl) rfl
theorem q903 : (Jvm.Cond.soleField "BorrowedLuck$Chain" "next") ∈ lw_all := lw_g (lw_at lw_m4 62 rfl) rfl
theorem q904 : (Jvm.Cond.superclass "BorrowedLuck$Chain" "java/lang/Object") ∈ lw_all := lw_g (lw_at lw_m4 63 rfl) rfl
theorem q1074 : (Jvm.Cond.castable "BorrowedLuck$Chain" "BorrowedLuck$Cond") ∈ lw_tbl := lw_at lw_m4 233 rfl
theorem q1075 : (Jvm.Cond.selects "BorrowedLuck$Chain" ({ cls := "BorrowedLuck$Cond", name := "holds", desc := "([I)Z" } : Jvm.MethodName) ({ cls := "BorrowedLuck$Chain", name := "holds", desc := "([I)Z" } : Jvm.MethodName)) ∈ lw_all := lw_g (lw_at lw_m4 234 rfl) rfl
theorem q1076 : (Jvm.Cond.unhidden "BorrowedLuck$Chain" "holds" "([I)Z") ∈ lw_tbl := lw_at lw_m4 235 rfl
theorem q1077 : (Jvm.Cond.instanceMethod ({ cls := "BorrowedLuck$Chain", name := "holds", desc := "([I)Z" } : Jvm.MethodName)) ∈ lw_all := lw_g (lw_at lw_m4 236 rfl) rfl
theorem q1078 : (Jvm.Cond.publicMethod ({ cls := "BorrowedLuck$Chain", name := "holds", desc := "([I)Z" } : Jvm.MethodName)) ∈ lw_tbl := lw_at lw_m4 237 rfl
theorem q1079 : (Jvm.Cond.code ({ cls := "BorrowedLuck$Chain", name := "holds", desc := "([I)Z" } : Jvm.MethodName) prog_2_method_2_code (3 : Nat) (Option.some Jvm.ClassFile.FieldType.boolean)) ∈ lw_all := lw_g (lw_at lw_m4 238 rfl) rfl
theorem q1080 : (Jvm.Cond.interfaceEntry "BorrowedLuck$Chain" (17 : Nat)) ∈ lw_tbl := lw_at lw_m4 239 rfl
theorem q1081 : (Jvm.Cond.methodLink "BorrowedLuck$Chain" (17 : Nat) ({ cls := "BorrowedLuck$Cond", name := "holds", desc := "([I)Z" } : Jvm.MethodName)) ∈ lw_all := lw_g (lw_at lw_m5 0 rfl) rfl
theorem q2099 : (Jvm.Cond.castable "BorrowedLuck$Chain" "java/lang/Object") ∈ lw_tbl := lw_at lw_m9 58 rfl
theorem in_X8 : ∀ w ∈ wsX80, w ∈ lw_all := lw_in wsX80 [898, 900, 902] (by decide +kernel) (by decide +kernel)

/-! BorrowedLuck$Tag -/
set_option maxRecDepth 100000
def RX9 : String := "BorrowedLuck$Tag"
def TX9 : u_T := fun k => match k with
  | _ => ("BorrowedLuck$Tag", "fact", "I", true)
def tyX9 : Nat → FieldType := fun k => match k with
  | _ => .int
abbrev wsX90 : List Cond := u_ws RX9 TX9 1
theorem nmX9 : ∀ a, a < 1 → ∀ b, b < 1 → a ≠ b → (TX9 a).2.1 ≠ (TX9 b).2.1 := by decide +kernel
theorem tyX9_ok : ∀ k, k < 1 → parseFieldDescriptor (TX9 k).2.2.1 = some (tyX9 k) := by decide +kernel
abbrev cX9_init : ByteArray := prog_12_method_1_code
def yX9_init : MethodName := ⟨RX9, "<init>", "(I)V"⟩
def dkwX9_init_0 : List UInt8 := [42, 183, 0, 1, 42, 27, 181, 0, 7, 177]
abbrev dktX9_init_0 : List UInt8 := dkwX9_init_0 ++ []
theorem dksX9_init_0 : cX9_init.data.toList.drop 0 = dktX9_init_0 := by decide +kernel
theorem dX9_init_0 : decode cX9_init 0 = .ok (.aload_n 0, 1) := dk_42 (dk_at dksX9_init_0 0 rfl rfl)
theorem dX9_init_1 : decode cX9_init 1 = .ok (.invokespecial 1, 3) := dk_183 0 1 (dk_at dksX9_init_0 1 rfl rfl)
theorem dX9_init_4 : decode cX9_init 4 = .ok (.aload_n 0, 1) := dk_42 (dk_at dksX9_init_0 4 rfl rfl)
theorem dX9_init_5 : decode cX9_init 5 = .ok (.iload_n 1, 1) := dk_27 (dk_at dksX9_init_0 5 rfl rfl)
theorem dX9_init_6 : decode cX9_init 6 = .ok (.putfield 7, 3) := dk_181 0 7 (dk_at dksX9_init_0 6 rfl rfl)
theorem dX9_init_9 : decode cX9_init 9 = .ok (.return_, 1) := dk_177 (dk_at dksX9_init_0 9 rfl rfl)
abbrev cX9_holds : ByteArray := prog_12_method_2_code
def yX9_holds : MethodName := ⟨RX9, "holds", "([I)Z"⟩
def dkwX9_holds_0 : List UInt8 := [43, 42, 180, 0, 7, 46, 153, 0, 7, 4, 167, 0, 4, 3, 172]
abbrev dktX9_holds_0 : List UInt8 := dkwX9_holds_0 ++ []
theorem dksX9_holds_0 : cX9_holds.data.toList.drop 0 = dktX9_holds_0 := by decide +kernel
theorem dX9_holds_0 : decode cX9_holds 0 = .ok (.aload_n 1, 1) := dk_43 (dk_at dksX9_holds_0 0 rfl rfl)
theorem dX9_holds_1 : decode cX9_holds 1 = .ok (.aload_n 0, 1) := dk_42 (dk_at dksX9_holds_0 1 rfl rfl)
theorem dX9_holds_2 : decode cX9_holds 2 = .ok (.getfield 7, 3) := dk_180 0 7 (dk_at dksX9_holds_0 2 rfl rfl)
theorem dX9_holds_5 : decode cX9_holds 5 = .ok (.iaload, 1) := dk_46 (dk_at dksX9_holds_0 5 rfl rfl)
theorem dX9_holds_6 : decode cX9_holds 6 = .ok (.ifCond .eq 7, 3) := dk_153 0 7 (dk_at dksX9_holds_0 6 rfl rfl)
theorem dX9_holds_9 : decode cX9_holds 9 = .ok (.iconst 1, 1) := dk_4 (dk_at dksX9_holds_0 9 rfl rfl)
theorem dX9_holds_10 : decode cX9_holds 10 = .ok (.goto 4, 3) := dk_167 0 4 (dk_at dksX9_holds_0 10 rfl rfl)
theorem dX9_holds_13 : decode cX9_holds 13 = .ok (.iconst 0, 1) := dk_3 (dk_at dksX9_holds_0 13 rfl rfl)
theorem dX9_holds_14 : decode cX9_holds 14 = .ok (.ireturn, 1) := dk_172 (dk_at dksX9_holds_0 14 rfl rfl)
theorem q140 : (Jvm.Cond.initialized "BorrowedLuck$Tag") ∈ lw_all := lw_g (lw_at lw_m1 19 rfl) rfl
theorem q831 : (Jvm.Cond.instantiable "BorrowedLuck$Tag" (1 : Nat)) ∈ lw_all := lw_g (lw_at lw_m3 230 rfl) rfl
theorem q833 : (Jvm.Cond.instanceMethod ({ cls := "BorrowedLuck$Tag", name := "<init>", desc := "(I)V" } : Jvm.MethodName)) ∈ lw_all := lw_g (lw_at lw_m3 232 rfl) rfl
theorem q834 : (Jvm.Cond.code ({ cls := "BorrowedLuck$Tag", name := "<init>", desc := "(I)V" } : Jvm.MethodName) prog_12_method_1_code (2 : Nat) (Option.none : Option Jvm.ClassFile.FieldType)) ∈ lw_all := lw_g (lw_at lw_m3 233 rfl) rfl
theorem q835 : (Jvm.Cond.methodLink "BorrowedLuck$Tag" (1 : Nat) ({ cls := "java/lang/Object", name := "<init>", desc := "()V" } : Jvm.MethodName)) ∈ lw_all := lw_g (lw_at lw_m3 234 rfl) rfl
theorem q836 : (Jvm.Cond.fieldLink "BorrowedLuck$Tag" (7 : Nat) "BorrowedLuck$Tag" "fact" "I") ∈ lw_all := lw_g (lw_at lw_m3 235 rfl) rfl
theorem q837 : (Jvm.Cond.laysFinal "BorrowedLuck$Tag" "BorrowedLuck$Tag" "fact" "I") ∈ lw_all := lw_g (lw_at lw_m3 236 rfl) rfl
theorem q838 : (Jvm.Cond.soleField "BorrowedLuck$Tag" "fact") ∈ lw_all := lw_g (lw_at lw_m3 237 rfl) rfl
theorem q839 : (Jvm.Cond.superclass "BorrowedLuck$Tag" "java/lang/Object") ∈ lw_all := lw_g (lw_at lw_m3 238 rfl) rfl
theorem q1100 : (Jvm.Cond.castable "BorrowedLuck$Tag" "BorrowedLuck$Cond") ∈ lw_tbl := lw_at lw_m5 19 rfl
theorem q1101 : (Jvm.Cond.selects "BorrowedLuck$Tag" ({ cls := "BorrowedLuck$Cond", name := "holds", desc := "([I)Z" } : Jvm.MethodName) ({ cls := "BorrowedLuck$Tag", name := "holds", desc := "([I)Z" } : Jvm.MethodName)) ∈ lw_all := lw_g (lw_at lw_m5 20 rfl) rfl
theorem q1102 : (Jvm.Cond.unhidden "BorrowedLuck$Tag" "holds" "([I)Z") ∈ lw_tbl := lw_at lw_m5 21 rfl
theorem q1103 : (Jvm.Cond.instanceMethod ({ cls := "BorrowedLuck$Tag", name := "holds", desc := "([I)Z" } : Jvm.MethodName)) ∈ lw_all := lw_g (lw_at lw_m5 22 rfl) rfl
theorem q1104 : (Jvm.Cond.publicMethod ({ cls := "BorrowedLuck$Tag", name := "holds", desc := "([I)Z" } : Jvm.MethodName)) ∈ lw_tbl := lw_at lw_m5 23 rfl
theorem q1105 : (Jvm.Cond.code ({ cls := "BorrowedLuck$Tag", name := "holds", desc := "([I)Z" } : Jvm.MethodName) prog_12_method_2_code (2 : Nat) (Option.some Jvm.ClassFile.FieldType.boolean)) ∈ lw_all := lw_g (lw_at lw_m5 24 rfl) rfl
theorem q2100 : (Jvm.Cond.castable "BorrowedLuck$Tag" "java/lang/Object") ∈ lw_tbl := lw_at lw_m9 59 rfl
theorem in_X9 : ∀ w ∈ wsX90, w ∈ lw_all := lw_in wsX90 [837] (by decide +kernel) (by decide +kernel)

theorem q1072 : (Jvm.Cond.interfaceMethod "BorrowedLuck$Cond" "BorrowedLuck$Cond" "holds" "([I)Z") ∈ lw_tbl := lw_at lw_m4 231 rfl
set_option maxRecDepth 100000
theorem q1073 : (Jvm.Cond.declares ({ cls := "BorrowedLuck$Cond", name := "holds", desc := "([I)Z" } : Jvm.MethodName)) ∈ lw_tbl := lw_at lw_m4 232 rfl

theorem q132 : (Jvm.Cond.initialized "java/lang/System") ∈ lw_all := lw_g (lw_at lw_m1 11 rfl) rfl
set_option maxRecDepth 100000
theorem q596 : (Jvm.Cond.static ({ cls := "java/lang/System", name := "arraycopy", desc := "(Ljava/lang/Object;ILjava/lang/Object;II)V" } : Jvm.MethodName)) ∈ lw_all := lw_g (lw_at lw_m2 235 rfl) rfl
theorem q597 : (Jvm.Cond.native ({ cls := "java/lang/System", name := "arraycopy", desc := "(Ljava/lang/Object;ILjava/lang/Object;II)V" } : Jvm.MethodName)) ∈ lw_all := lw_g (lw_at lw_m2 236 rfl) rfl

theorem q169 : (Jvm.Cond.arrayOver (Jvm.ClassFile.FieldType.object "java/lang/String")) ∈ lw_tbl := lw_at lw_m1 48 rfl
set_option maxRecDepth 100000
theorem q181 : (Jvm.Cond.arrayOver (Jvm.ClassFile.FieldType.object "BorrowedLuck$Line")) ∈ lw_tbl := lw_at lw_m1 60 rfl
theorem q189 : (Jvm.Cond.arrayOver (Jvm.ClassFile.FieldType.object "BorrowedLuck$Woman")) ∈ lw_tbl := lw_at lw_m1 68 rfl
theorem q191 : (Jvm.Cond.arrayOver (Jvm.ClassFile.FieldType.object "BorrowedLuck$Thing")) ∈ lw_tbl := lw_at lw_m1 70 rfl
theorem q222 : (Jvm.Cond.arrayClass Jvm.ClassFile.FieldType.byte) ∈ lw_all := lw_g (lw_at lw_m1 101 rfl) rfl
theorem q223 : (Jvm.Cond.arrayClass Jvm.ClassFile.FieldType.int) ∈ lw_all := lw_g (lw_at lw_m1 102 rfl) rfl
theorem q440 : (Jvm.Cond.arrayOver (Jvm.ClassFile.FieldType.object "BorrowedLuck$State")) ∈ lw_tbl := lw_at lw_m2 79 rfl
theorem q2087 : (Jvm.Cond.arrayClass Jvm.ClassFile.FieldType.long) ∈ lw_all := lw_g (lw_at lw_m9 46 rfl) rfl
